set_option maxRecDepth 100000
theorem ff_X1_9 {ci : Nat} (h : ci ∈ [1]) : zFf "WhatIfSheet$Sight" 9 ci 8 (.array .double) := by
  simp only [List.mem_cons, List.not_mem_nil, or_false] at h
  rcases h with rfl
  · exact ⟨RX1, TX1, 13, rfl, by decide, q239, rfl, rfl, by decide +kernel⟩
theorem ff_X1_15 {ci : Nat} (h : ci ∈ [1]) : zFf "WhatIfSheet$Sight" 15 ci 9 (.array .double) := by
  simp only [List.mem_cons, List.not_mem_nil, or_false] at h
  rcases h with rfl
  · exact ⟨RX1, TX1, 13, rfl, by decide, q241, rfl, rfl, by decide +kernel⟩
theorem ff_X1_18 {ci : Nat} (h : ci ∈ [1]) : zFf "WhatIfSheet$Sight" 18 ci 10 (.array .byte) := by
  simp only [List.mem_cons, List.not_mem_nil, or_false] at h
  rcases h with rfl
  · exact ⟨RX1, TX1, 13, rfl, by decide, q243, rfl, rfl, by decide +kernel⟩
theorem ff_X1_22 {ci : Nat} (h : ci ∈ [1]) : zFf "WhatIfSheet$Sight" 22 ci 11 (.array .byte) := by
  simp only [List.mem_cons, List.not_mem_nil, or_false] at h
  rcases h with rfl
  · exact ⟨RX1, TX1, 13, rfl, by decide, q245, rfl, rfl, by decide +kernel⟩
theorem ff_X1_25 {ci : Nat} (h : ci ∈ [1]) : zFf "WhatIfSheet$Sight" 25 ci 0 .int := by
  simp only [List.mem_cons, List.not_mem_nil, or_false] at h
  rcases h with rfl
  · exact ⟨RX1, TX1, 13, rfl, by decide, q219, rfl, rfl, by decide +kernel⟩
theorem ff_X1_29 {ci : Nat} (h : ci ∈ [1]) : zFf "WhatIfSheet$Sight" 29 ci 1 (.array .double) := by
  simp only [List.mem_cons, List.not_mem_nil, or_false] at h
  rcases h with rfl
  · exact ⟨RX1, TX1, 13, rfl, by decide, q221, rfl, rfl, by decide +kernel⟩
theorem ff_X1_32 {ci : Nat} (h : ci ∈ [1]) : zFf "WhatIfSheet$Sight" 32 ci 3 (.array .int) := by
  simp only [List.mem_cons, List.not_mem_nil, or_false] at h
  rcases h with rfl
  · exact ⟨RX1, TX1, 13, rfl, by decide, q226, rfl, rfl, by decide +kernel⟩
theorem ff_X1_36 {ci : Nat} (h : ci ∈ [1]) : zFf "WhatIfSheet$Sight" 36 ci 4 (.array .byte) := by
  simp only [List.mem_cons, List.not_mem_nil, or_false] at h
  rcases h with rfl
  · exact ⟨RX1, TX1, 13, rfl, by decide, q228, rfl, rfl, by decide +kernel⟩
theorem ff_X1_39 {ci : Nat} (h : ci ∈ [1]) : zFf "WhatIfSheet$Sight" 39 ci 5 (.array .byte) := by
  simp only [List.mem_cons, List.not_mem_nil, or_false] at h
  rcases h with rfl
  · exact ⟨RX1, TX1, 13, rfl, by decide, q230, rfl, rfl, by decide +kernel⟩
theorem ff_X1_42 {ci : Nat} (h : ci ∈ [1]) : zFf "WhatIfSheet$Sight" 42 ci 2 (.array .double) := by
  simp only [List.mem_cons, List.not_mem_nil, or_false] at h
  rcases h with rfl
  · exact ⟨RX1, TX1, 13, rfl, by decide, q223, rfl, rfl, by decide +kernel⟩
theorem ff_X1_45 {ci : Nat} (h : ci ∈ [1]) : zFf "WhatIfSheet$Sight" 45 ci 6 (.array .byte) := by
  simp only [List.mem_cons, List.not_mem_nil, or_false] at h
  rcases h with rfl
  · exact ⟨RX1, TX1, 13, rfl, by decide, q232, rfl, rfl, by decide +kernel⟩
theorem ff_X1_48 {ci : Nat} (h : ci ∈ [1]) : zFf "WhatIfSheet$Sight" 48 ci 7 (.array .byte) := by
  simp only [List.mem_cons, List.not_mem_nil, or_false] at h
  rcases h with rfl
  · exact ⟨RX1, TX1, 13, rfl, by decide, q237, rfl, rfl, by decide +kernel⟩
def wp_X1_init (l : Launch) (g : zG) (d : Nat) (mc ms : Nat) (h0 : Nat) (x1 : Int32) (hp : zHp) (nx : Nat) (Post : zHp → Nat → Prop) : Prop :=
  (zna g mc ms hp nx 0 0 1 (8 : Int32) (.inr (.inr (.inr (.inl (fun _ => 0))))) fun hp_1 =>
  ∀ nx_2 kc_3 ks_4 : Nat, nx_2 = (nx + 1) → kc_3 = (0 + 1) → ks_4 = (0 + (8 : Int32).toNatClampNeg) →
  (zpt g hp_1 (some h0) [1] 8 (va_rf (some nx)) fun hp_8 =>
  (zna g mc ms hp_8 nx_2 kc_3 ks_4 1 (8 : Int32) (.inr (.inr (.inr (.inl (fun _ => 0))))) fun hp_9 =>
  ∀ nx_10 kc_11 ks_12 : Nat, nx_10 = (nx_2 + 1) → kc_11 = (kc_3 + 1) → ks_12 = (ks_4 + (8 : Int32).toNatClampNeg) →
  (zpt g hp_9 (some h0) [1] 9 (va_rf (some nx_2)) fun hp_16 =>
  (zna g mc ms hp_16 nx_10 kc_11 ks_12 2 (8 : Int32) (.inl (fun _ => 0)) fun hp_17 =>
  ∀ nx_18 kc_19 ks_20 : Nat, nx_18 = (nx_10 + 1) → kc_19 = (kc_11 + 1) → ks_20 = (ks_12 + (8 : Int32).toNatClampNeg) →
  (zpt g hp_17 (some h0) [1] 10 (va_rf (some nx_10)) fun hp_24 =>
  (zna g mc ms hp_24 nx_18 kc_19 ks_20 2 (8 : Int32) (.inl (fun _ => 0)) fun hp_25 =>
  ∀ nx_26 kc_27 ks_28 : Nat, nx_26 = (nx_18 + 1) → kc_27 = (kc_19 + 1) → ks_28 = (ks_20 + (8 : Int32).toNatClampNeg) →
  (zpt g hp_25 (some h0) [1] 11 (va_rf (some nx_18)) fun hp_32 =>
  (zpt g hp_32 (some h0) [1] 0 (.int x1) fun hp_36 =>
  (zna g mc ms hp_36 nx_26 kc_27 ks_28 1 ((24 : Int32) * x1) (.inr (.inr (.inr (.inl (fun _ => 0))))) fun hp_37 =>
  ∀ nx_38 kc_39 ks_40 : Nat, nx_38 = (nx_26 + 1) → kc_39 = (kc_27 + 1) → ks_40 = (ks_28 + ((24 : Int32) * x1).toNatClampNeg) →
  (zpt g hp_37 (some h0) [1] 1 (va_rf (some nx_26)) fun hp_44 =>
  (zna g mc ms hp_44 nx_38 kc_39 ks_40 0 ((24 : Int32) * x1) (.inl (fun _ => 0)) fun hp_45 =>
  ∀ nx_46 kc_47 ks_48 : Nat, nx_46 = (nx_38 + 1) → kc_47 = (kc_39 + 1) → ks_48 = (ks_40 + ((24 : Int32) * x1).toNatClampNeg) →
  (zpt g hp_45 (some h0) [1] 3 (va_rf (some nx_38)) fun hp_52 =>
  (zna g mc ms hp_52 nx_46 kc_47 ks_48 2 ((24 : Int32) * x1) (.inl (fun _ => 0)) fun hp_53 =>
  ∀ nx_54 kc_55 ks_56 : Nat, nx_54 = (nx_46 + 1) → kc_55 = (kc_47 + 1) → ks_56 = (ks_48 + ((24 : Int32) * x1).toNatClampNeg) →
  (zpt g hp_53 (some h0) [1] 4 (va_rf (some nx_46)) fun hp_60 =>
  (zna g mc ms hp_60 nx_54 kc_55 ks_56 2 ((24 : Int32) * x1) (.inl (fun _ => 0)) fun hp_61 =>
  ∀ nx_62 kc_63 ks_64 : Nat, nx_62 = (nx_54 + 1) → kc_63 = (kc_55 + 1) → ks_64 = (ks_56 + ((24 : Int32) * x1).toNatClampNeg) →
  (zpt g hp_61 (some h0) [1] 5 (va_rf (some nx_54)) fun hp_68 =>
  (zna g mc ms hp_68 nx_62 kc_63 ks_64 1 x1 (.inr (.inr (.inr (.inl (fun _ => 0))))) fun hp_69 =>
  ∀ nx_70 kc_71 ks_72 : Nat, nx_70 = (nx_62 + 1) → kc_71 = (kc_63 + 1) → ks_72 = (ks_64 + x1.toNatClampNeg) →
  (zpt g hp_69 (some h0) [1] 2 (va_rf (some nx_62)) fun hp_76 =>
  (zna g mc ms hp_76 nx_70 kc_71 ks_72 2 x1 (.inl (fun _ => 0)) fun hp_77 =>
  ∀ nx_78 kc_79 ks_80 : Nat, nx_78 = (nx_70 + 1) → kc_79 = (kc_71 + 1) → ks_80 = (ks_72 + x1.toNatClampNeg) →
  (zpt g hp_77 (some h0) [1] 6 (va_rf (some nx_70)) fun hp_84 =>
  (zna g mc ms hp_84 nx_78 kc_79 ks_80 2 x1 (.inl (fun _ => 0)) fun hp_85 =>
  ∀ nx_86 kc_87 ks_88 : Nat, nx_86 = (nx_78 + 1) → kc_87 = (kc_79 + 1) → ks_88 = (ks_80 + x1.toNatClampNeg) →
  (zpt g hp_85 (some h0) [1] 7 (va_rf (some nx_78)) fun hp_92 =>
  (kc_87 ≤ mc ∧ ks_88 ≤ ms ∧ Post hp_92 nx_86))))))))))))))))))))))))
set_option maxHeartbeats 40000000 in
theorem met_X1_init {l : Launch} {g : zG} {d : Nat} {mc ms : Nat} {h0 : Nat} {x1 : Int32} {hp : zHp} {nx : Nat} {Post : zHp → Nat → Prop} (hw : wp_X1_init l g d mc ms h0 x1 hp nx Post) : zMt l g yX1_init cX1_init 2 none (d + 1) mc ms [.ref h0, .int x1] hp nx (zQv g Post) := by
  refine z_start (by decide) (Nat.le_of_ble_eq_true rfl) ?_
  intro p e s m below meth c hk hr hin hH hz ls hl
  have hx := hk.1.1
  have hb := hk.1.2.1
  have hown := hk.1.2.2.2.1
  have hts := hk.1.2.2.2.2
  have hS : va_S (zAd g) s.heap s.heap [] := va_S.rf
  have hl : lv_has ls 2 [(0, va_rf (some h0)), (1, .int x1)] := hl
  unfold wp_X1_init at hw
  refine zr_aload_n (r := some h0) hx hb dX1_init_0 rfl (lv_at hl 0 rfl) ?_
  refine W.objInit (a := h0) hx hb hown (hts _ q218) (hts _ q206) (hts _ q207) rfl (by rw [hk.1.2.2.1]; exact hl.1) rfl dX1_init_1 (Nat.le_add_left 1 d) (Nat.le_trans (Nat.le_of_ble_eq_true rfl : _ ≤ 64) (by show 64 ≤ 64 * (d + 1); omega)) ?_
  refine W.eq (g2 := F0 m 4 ls []) rfl ?_
  refine zr_aload_n (r := some h0) hx hb dX1_init_4 rfl (lv_at hl 0 rfl) ?_
  refine lv_bipush (v := (8 : Int32)) hx hb dX1_init_5 (by decide) ?_
  obtain ⟨hn0, hn1, hcl, hsl, hw⟩ := hw
  refine zx_newa hk hH hz hS (atype := .double) 1 (ty := .double) rfl q275 rfl (fun _ _ h => h) (a0 := ((8 : Int32).toNatClampNeg, .inr (.inr (.inr (.inl (fun _ => 0)))))) (fun _ => rfl) hn0 rfl (by simp only [componentBytes]; omega) hcl hsl dX1_init_7 (fun H hH hz hS hlt hnb => ?_)
  have hw := hw hlt hnb
  generalize va_up hp nx _ = hp_1 at hH hw
  obtain ⟨kc_3, ekc⟩ : ∃ k, k = (0 + 1) := ⟨_, rfl⟩
  obtain ⟨ks_4, eks⟩ : ∃ k, k = (0 + (8 : Int32).toNatClampNeg) := ⟨_, rfl⟩
  have hw := hw _ _ _ rfl ekc eks
  refine W.widen (Nat.le_of_eq ekc.symm) (Nat.le_of_eq eks.symm) ?_
  clear ekc eks
  generalize (nx + 1) = nx_2 at hz hw
  obtain ⟨a_5, ci_6, fs_7, hp_8, er, he, hc, hA, hkl, eh, hw⟩ := zpt_e hw
  refine zw_putF hk hin hH hz hS er he hA hkl eh (ff_X1_9 hc) (z_narA _ _) (z_fitA _ _) dX1_init_9 (fun H locs hH hz hS => ?_)
  refine zr_aload_n (r := some h0) hx hb dX1_init_12 rfl (lv_at hl 0 rfl) ?_
  refine lv_bipush (v := (8 : Int32)) hx hb dX1_init_13 (by decide) ?_
  obtain ⟨hn0, hn1, hcl, hsl, hw⟩ := hw
  refine zx_newa hk hH hz hS (atype := .double) 1 (ty := .double) rfl q275 rfl (fun _ _ h => h) (a0 := ((8 : Int32).toNatClampNeg, .inr (.inr (.inr (.inl (fun _ => 0)))))) (fun _ => rfl) hn0 rfl (by simp only [componentBytes]; omega) hcl hsl dX1_init_15 (fun H hH hz hS hlt hnb => ?_)
  have hw := hw hlt hnb
  generalize va_up hp_8 nx_2 _ = hp_9 at hH hw
  obtain ⟨kc_11, ekc⟩ : ∃ k, k = (kc_3 + 1) := ⟨_, rfl⟩
  obtain ⟨ks_12, eks⟩ : ∃ k, k = (ks_4 + (8 : Int32).toNatClampNeg) := ⟨_, rfl⟩
  have hw := hw _ _ _ rfl ekc eks
  refine W.widen (Nat.le_of_eq ekc.symm) (Nat.le_of_eq eks.symm) ?_
  clear ekc eks
  generalize (nx_2 + 1) = nx_10 at hz hw
  obtain ⟨a_13, ci_14, fs_15, hp_16, er, he, hc, hA, hkl, eh, hw⟩ := zpt_e hw
  refine zw_putF hk hin hH hz hS er he hA hkl eh (ff_X1_15 hc) (z_narA _ _) (z_fitA _ _) dX1_init_17 (fun H locs hH hz hS => ?_)
  refine zr_aload_n (r := some h0) hx hb dX1_init_20 rfl (lv_at hl 0 rfl) ?_
  refine lv_bipush (v := (8 : Int32)) hx hb dX1_init_21 (by decide) ?_
  obtain ⟨hn0, hn1, hcl, hsl, hw⟩ := hw
  refine zx_newa hk hH hz hS (atype := .byte) 2 (ty := .byte) rfl q276 rfl (fun _ _ h => h) (a0 := ((8 : Int32).toNatClampNeg, .inl (fun _ => 0))) (fun _ => rfl) hn0 rfl (by simp only [componentBytes]; omega) hcl hsl dX1_init_23 (fun H hH hz hS hlt hnb => ?_)
  have hw := hw hlt hnb
  generalize va_up hp_16 nx_10 _ = hp_17 at hH hw
  obtain ⟨kc_19, ekc⟩ : ∃ k, k = (kc_11 + 1) := ⟨_, rfl⟩
  obtain ⟨ks_20, eks⟩ : ∃ k, k = (ks_12 + (8 : Int32).toNatClampNeg) := ⟨_, rfl⟩
  have hw := hw _ _ _ rfl ekc eks
  refine W.widen (Nat.le_of_eq ekc.symm) (Nat.le_of_eq eks.symm) ?_
  clear ekc eks
  generalize (nx_10 + 1) = nx_18 at hz hw
  obtain ⟨a_21, ci_22, fs_23, hp_24, er, he, hc, hA, hkl, eh, hw⟩ := zpt_e hw
  refine zw_putF hk hin hH hz hS er he hA hkl eh (ff_X1_18 hc) (z_narA _ _) (z_fitA _ _) dX1_init_25 (fun H locs hH hz hS => ?_)
  refine zr_aload_n (r := some h0) hx hb dX1_init_28 rfl (lv_at hl 0 rfl) ?_
  refine lv_bipush (v := (8 : Int32)) hx hb dX1_init_29 (by decide) ?_
  obtain ⟨hn0, hn1, hcl, hsl, hw⟩ := hw
  refine zx_newa hk hH hz hS (atype := .byte) 2 (ty := .byte) rfl q276 rfl (fun _ _ h => h) (a0 := ((8 : Int32).toNatClampNeg, .inl (fun _ => 0))) (fun _ => rfl) hn0 rfl (by simp only [componentBytes]; omega) hcl hsl dX1_init_31 (fun H hH hz hS hlt hnb => ?_)
  have hw := hw hlt hnb
  generalize va_up hp_24 nx_18 _ = hp_25 at hH hw
  obtain ⟨kc_27, ekc⟩ : ∃ k, k = (kc_19 + 1) := ⟨_, rfl⟩
  obtain ⟨ks_28, eks⟩ : ∃ k, k = (ks_20 + (8 : Int32).toNatClampNeg) := ⟨_, rfl⟩
  have hw := hw _ _ _ rfl ekc eks
  refine W.widen (Nat.le_of_eq ekc.symm) (Nat.le_of_eq eks.symm) ?_
  clear ekc eks
  generalize (nx_18 + 1) = nx_26 at hz hw
  obtain ⟨a_29, ci_30, fs_31, hp_32, er, he, hc, hA, hkl, eh, hw⟩ := zpt_e hw
  refine zw_putF hk hin hH hz hS er he hA hkl eh (ff_X1_22 hc) (z_narA _ _) (z_fitA _ _) dX1_init_33 (fun H locs hH hz hS => ?_)
  refine zr_aload_n (r := some h0) hx hb dX1_init_36 rfl (lv_at hl 0 rfl) ?_
  refine lv_iload_n hx hb dX1_init_37 rfl (lv_at hl 1 rfl) ?_
  obtain ⟨a_33, ci_34, fs_35, hp_36, er, he, hc, hA, hkl, eh, hw⟩ := zpt_e hw
  refine zw_putF hk hin hH hz hS er he hA hkl eh (ff_X1_25 hc) rfl rfl dX1_init_38 (fun H locs hH hz hS => ?_)
  refine zr_aload_n (r := some h0) hx hb dX1_init_41 rfl (lv_at hl 0 rfl) ?_
  refine lv_bipush (v := (24 : Int32)) hx hb dX1_init_42 (by decide) ?_
  refine lv_iload_n hx hb dX1_init_44 rfl (lv_at hl 1 rfl) ?_
  refine lv_imul hx hb dX1_init_45 ?_
  obtain ⟨hn0, hn1, hcl, hsl, hw⟩ := hw
  refine zx_newa hk hH hz hS (atype := .double) 1 (ty := .double) rfl q275 rfl (fun _ _ h => h) (a0 := (((24 : Int32) * x1).toNatClampNeg, .inr (.inr (.inr (.inl (fun _ => 0)))))) (fun _ => rfl) hn0 rfl (by simp only [componentBytes]; omega) hcl hsl dX1_init_46 (fun H hH hz hS hlt hnb => ?_)
  have hw := hw hlt hnb
  generalize va_up hp_36 nx_26 _ = hp_37 at hH hw
  obtain ⟨kc_39, ekc⟩ : ∃ k, k = (kc_27 + 1) := ⟨_, rfl⟩
  obtain ⟨ks_40, eks⟩ : ∃ k, k = (ks_28 + ((24 : Int32) * x1).toNatClampNeg) := ⟨_, rfl⟩
  have hw := hw _ _ _ rfl ekc eks
  refine W.widen (Nat.le_of_eq ekc.symm) (Nat.le_of_eq eks.symm) ?_
  clear ekc eks
  generalize (nx_26 + 1) = nx_38 at hz hw
  obtain ⟨a_41, ci_42, fs_43, hp_44, er, he, hc, hA, hkl, eh, hw⟩ := zpt_e hw
  refine zw_putF hk hin hH hz hS er he hA hkl eh (ff_X1_29 hc) (z_narA _ _) (z_fitA _ _) dX1_init_48 (fun H locs hH hz hS => ?_)
  refine zr_aload_n (r := some h0) hx hb dX1_init_51 rfl (lv_at hl 0 rfl) ?_
  refine lv_bipush (v := (24 : Int32)) hx hb dX1_init_52 (by decide) ?_
  refine lv_iload_n hx hb dX1_init_54 rfl (lv_at hl 1 rfl) ?_
  refine lv_imul hx hb dX1_init_55 ?_
  obtain ⟨hn0, hn1, hcl, hsl, hw⟩ := hw
  refine zx_newa hk hH hz hS (atype := .int) 0 (ty := .int) rfl q277 rfl (fun _ _ h => h) (a0 := (((24 : Int32) * x1).toNatClampNeg, .inl (fun _ => 0))) (fun _ => rfl) hn0 rfl (by simp only [componentBytes]; omega) hcl hsl dX1_init_56 (fun H hH hz hS hlt hnb => ?_)
  have hw := hw hlt hnb
  generalize va_up hp_44 nx_38 _ = hp_45 at hH hw
  obtain ⟨kc_47, ekc⟩ : ∃ k, k = (kc_39 + 1) := ⟨_, rfl⟩
  obtain ⟨ks_48, eks⟩ : ∃ k, k = (ks_40 + ((24 : Int32) * x1).toNatClampNeg) := ⟨_, rfl⟩
  have hw := hw _ _ _ rfl ekc eks
  refine W.widen (Nat.le_of_eq ekc.symm) (Nat.le_of_eq eks.symm) ?_
  clear ekc eks
  generalize (nx_38 + 1) = nx_46 at hz hw
  obtain ⟨a_49, ci_50, fs_51, hp_52, er, he, hc, hA, hkl, eh, hw⟩ := zpt_e hw
  refine zw_putF hk hin hH hz hS er he hA hkl eh (ff_X1_32 hc) (z_narA _ _) (z_fitA _ _) dX1_init_58 (fun H locs hH hz hS => ?_)
  refine zr_aload_n (r := some h0) hx hb dX1_init_61 rfl (lv_at hl 0 rfl) ?_
  refine lv_bipush (v := (24 : Int32)) hx hb dX1_init_62 (by decide) ?_
  refine lv_iload_n hx hb dX1_init_64 rfl (lv_at hl 1 rfl) ?_
  refine lv_imul hx hb dX1_init_65 ?_
  obtain ⟨hn0, hn1, hcl, hsl, hw⟩ := hw
  refine zx_newa hk hH hz hS (atype := .byte) 2 (ty := .byte) rfl q276 rfl (fun _ _ h => h) (a0 := (((24 : Int32) * x1).toNatClampNeg, .inl (fun _ => 0))) (fun _ => rfl) hn0 rfl (by simp only [componentBytes]; omega) hcl hsl dX1_init_66 (fun H hH hz hS hlt hnb => ?_)
  have hw := hw hlt hnb
  generalize va_up hp_52 nx_46 _ = hp_53 at hH hw
  obtain ⟨kc_55, ekc⟩ : ∃ k, k = (kc_47 + 1) := ⟨_, rfl⟩
  obtain ⟨ks_56, eks⟩ : ∃ k, k = (ks_48 + ((24 : Int32) * x1).toNatClampNeg) := ⟨_, rfl⟩
  have hw := hw _ _ _ rfl ekc eks
  refine W.widen (Nat.le_of_eq ekc.symm) (Nat.le_of_eq eks.symm) ?_
  clear ekc eks
  generalize (nx_46 + 1) = nx_54 at hz hw
  obtain ⟨a_57, ci_58, fs_59, hp_60, er, he, hc, hA, hkl, eh, hw⟩ := zpt_e hw
  refine zw_putF hk hin hH hz hS er he hA hkl eh (ff_X1_36 hc) (z_narA _ _) (z_fitA _ _) dX1_init_68 (fun H locs hH hz hS => ?_)
  refine zr_aload_n (r := some h0) hx hb dX1_init_71 rfl (lv_at hl 0 rfl) ?_
  refine lv_bipush (v := (24 : Int32)) hx hb dX1_init_72 (by decide) ?_
  refine lv_iload_n hx hb dX1_init_74 rfl (lv_at hl 1 rfl) ?_
  refine lv_imul hx hb dX1_init_75 ?_
  obtain ⟨hn0, hn1, hcl, hsl, hw⟩ := hw
  refine zx_newa hk hH hz hS (atype := .byte) 2 (ty := .byte) rfl q276 rfl (fun _ _ h => h) (a0 := (((24 : Int32) * x1).toNatClampNeg, .inl (fun _ => 0))) (fun _ => rfl) hn0 rfl (by simp only [componentBytes]; omega) hcl hsl dX1_init_76 (fun H hH hz hS hlt hnb => ?_)
  have hw := hw hlt hnb
  generalize va_up hp_60 nx_54 _ = hp_61 at hH hw
  obtain ⟨kc_63, ekc⟩ : ∃ k, k = (kc_55 + 1) := ⟨_, rfl⟩
  obtain ⟨ks_64, eks⟩ : ∃ k, k = (ks_56 + ((24 : Int32) * x1).toNatClampNeg) := ⟨_, rfl⟩
  have hw := hw _ _ _ rfl ekc eks
  refine W.widen (Nat.le_of_eq ekc.symm) (Nat.le_of_eq eks.symm) ?_
  clear ekc eks
  generalize (nx_54 + 1) = nx_62 at hz hw
  obtain ⟨a_65, ci_66, fs_67, hp_68, er, he, hc, hA, hkl, eh, hw⟩ := zpt_e hw
  refine zw_putF hk hin hH hz hS er he hA hkl eh (ff_X1_39 hc) (z_narA _ _) (z_fitA _ _) dX1_init_78 (fun H locs hH hz hS => ?_)
  refine zr_aload_n (r := some h0) hx hb dX1_init_81 rfl (lv_at hl 0 rfl) ?_
  refine lv_iload_n hx hb dX1_init_82 rfl (lv_at hl 1 rfl) ?_
  obtain ⟨hn0, hn1, hcl, hsl, hw⟩ := hw
  refine zx_newa hk hH hz hS (atype := .double) 1 (ty := .double) rfl q275 rfl (fun _ _ h => h) (a0 := (x1.toNatClampNeg, .inr (.inr (.inr (.inl (fun _ => 0)))))) (fun _ => rfl) hn0 rfl (by simp only [componentBytes]; omega) hcl hsl dX1_init_83 (fun H hH hz hS hlt hnb => ?_)
  have hw := hw hlt hnb
  generalize va_up hp_68 nx_62 _ = hp_69 at hH hw
  obtain ⟨kc_71, ekc⟩ : ∃ k, k = (kc_63 + 1) := ⟨_, rfl⟩
  obtain ⟨ks_72, eks⟩ : ∃ k, k = (ks_64 + x1.toNatClampNeg) := ⟨_, rfl⟩
  have hw := hw _ _ _ rfl ekc eks
  refine W.widen (Nat.le_of_eq ekc.symm) (Nat.le_of_eq eks.symm) ?_
  clear ekc eks
  generalize (nx_62 + 1) = nx_70 at hz hw
  obtain ⟨a_73, ci_74, fs_75, hp_76, er, he, hc, hA, hkl, eh, hw⟩ := zpt_e hw
  refine zw_putF hk hin hH hz hS er he hA hkl eh (ff_X1_42 hc) (z_narA _ _) (z_fitA _ _) dX1_init_85 (fun H locs hH hz hS => ?_)
  refine zr_aload_n (r := some h0) hx hb dX1_init_88 rfl (lv_at hl 0 rfl) ?_
  refine lv_iload_n hx hb dX1_init_89 rfl (lv_at hl 1 rfl) ?_
  obtain ⟨hn0, hn1, hcl, hsl, hw⟩ := hw
  refine zx_newa hk hH hz hS (atype := .byte) 2 (ty := .byte) rfl q276 rfl (fun _ _ h => h) (a0 := (x1.toNatClampNeg, .inl (fun _ => 0))) (fun _ => rfl) hn0 rfl (by simp only [componentBytes]; omega) hcl hsl dX1_init_90 (fun H hH hz hS hlt hnb => ?_)
  have hw := hw hlt hnb
  generalize va_up hp_76 nx_70 _ = hp_77 at hH hw
  obtain ⟨kc_79, ekc⟩ : ∃ k, k = (kc_71 + 1) := ⟨_, rfl⟩
  obtain ⟨ks_80, eks⟩ : ∃ k, k = (ks_72 + x1.toNatClampNeg) := ⟨_, rfl⟩
  have hw := hw _ _ _ rfl ekc eks
  refine W.widen (Nat.le_of_eq ekc.symm) (Nat.le_of_eq eks.symm) ?_
  clear ekc eks
  generalize (nx_70 + 1) = nx_78 at hz hw
  obtain ⟨a_81, ci_82, fs_83, hp_84, er, he, hc, hA, hkl, eh, hw⟩ := zpt_e hw
  refine zw_putF hk hin hH hz hS er he hA hkl eh (ff_X1_45 hc) (z_narA _ _) (z_fitA _ _) dX1_init_92 (fun H locs hH hz hS => ?_)
  refine zr_aload_n (r := some h0) hx hb dX1_init_95 rfl (lv_at hl 0 rfl) ?_
  refine lv_iload_n hx hb dX1_init_96 rfl (lv_at hl 1 rfl) ?_
  obtain ⟨hn0, hn1, hcl, hsl, hw⟩ := hw
  refine zx_newa hk hH hz hS (atype := .byte) 2 (ty := .byte) rfl q276 rfl (fun _ _ h => h) (a0 := (x1.toNatClampNeg, .inl (fun _ => 0))) (fun _ => rfl) hn0 rfl (by simp only [componentBytes]; omega) hcl hsl dX1_init_97 (fun H hH hz hS hlt hnb => ?_)
  have hw := hw hlt hnb
  generalize va_up hp_84 nx_78 _ = hp_85 at hH hw
  obtain ⟨kc_87, ekc⟩ : ∃ k, k = (kc_79 + 1) := ⟨_, rfl⟩
  obtain ⟨ks_88, eks⟩ : ∃ k, k = (ks_80 + x1.toNatClampNeg) := ⟨_, rfl⟩
  have hw := hw _ _ _ rfl ekc eks
  refine W.widen (Nat.le_of_eq ekc.symm) (Nat.le_of_eq eks.symm) ?_
  clear ekc eks
  generalize (nx_78 + 1) = nx_86 at hz hw
  obtain ⟨a_89, ci_90, fs_91, hp_92, er, he, hc, hA, hkl, eh, hw⟩ := zpt_e hw
  refine zw_putF hk hin hH hz hS er he hA hkl eh (ff_X1_48 hc) (z_narA _ _) (z_fitA _ _) dX1_init_99 (fun H locs hH hz hS => ?_)
  obtain ⟨hkc, hks, hw⟩ := hw
  exact zr_vret hk hr hH hz hS hw hkc hks dX1_init_102
theorem fk_X1_57 {ci : Nat} (h : ci ∈ [32]) : zFk "WhatIfSheet$Sight" 57 ci 1 := by
  simp only [List.mem_cons, List.not_mem_nil, or_false] at h
  rcases h with rfl
  · exact ⟨RX32, TX32, 2, rfl, by decide, q2357⟩
def wp_X1_keeps (l : Launch) (g : zG) (d : Nat) (r0 : Option Nat) (r1 : Option Nat) (r2 : Option Nat) (r3 : Option Nat) (hp : zHp) (nx : Nat) (Post : Int32 → zHp → Nat → Prop) : Prop :=
  (∃ I_6 : Nat → Int32 → Int32 → zHp → Nat → Prop, (∃ n_60, I_6 n_60 (0 : Int32) (0 : Int32) hp nx) ∧ ∀ (n_5 : Nat) (x_1 : Int32) (x_2 : Int32) (hp_3 : zHp) (nx_4 : Nat), I_6 n_5 x_1 x_2 hp_3 nx_4 →
  (zo hp_3 r0 [32] fun a_57 ci_58 fs_59 => zMt l g yX32_size cX32_size 1 (some .int) d 0 0 (.ref a_57 :: []) hp_3 nx_4 (zQi g fun x_8 hp_6 nx_7 =>
  ((x_8 ≤ x_2 →
  (Post x_1 hp_6 nx_7)) ∧
  (¬ x_8 ≤ x_2 →
  (zgR hp_6 r0 [32] 1 fun r_12 =>
  (zaD (g.2.1 1) hp_6 r_12 fun a_13 n_14 f_15 => vp_in x_2 n_14 ∧ ∀ x_16 : UInt64, x_16 = f_15 x_2.toNatClampNeg →
  (zo hp_6 r1 [2, 6, 7, 8, 9, 10] fun a_53 ci_54 fs_55 => ∃ PP_56 : UInt64 → zHp → Nat → Prop, (∀ (x_19 : UInt64) (hp_17 : zHp) (nx_18 : Nat), PP_56 x_19 hp_17 nx_18 →
  (zaD (g.2.1 1) hp_17 r2 fun a_20 n_21 f_22 => vp_in x_2 n_21 ∧ zB g ≤ a_20 ∧ ∀ hp_23 : zHp, hp_23 = va_up hp_17 a_20 (some (.inl (g.2.1 1, n_21, .inr (.inr (.inr (.inl (va_up f_22 x_2.toNatClampNeg x_19))))))) →
  (∃ I_33 : Nat → Int32 → Int32 → Int32 → zHp → Nat → Prop, (∃ n_52, I_33 n_52 x_1 x_2 (0 : Int32) hp_23 nx_18) ∧ ∀ (n_29 : Nat) (x_24 : Int32) (x_25 : Int32) (x_26 : Int32) (hp_27 : zHp) (nx_28 : Nat), I_33 n_29 x_24 x_25 x_26 hp_27 nx_28 →
  (zaD (g.2.1 1) hp_27 r2 fun a_30 n_31 f_32 => vp_in x_26 n_31 ∧ ∀ x_33 : UInt64, x_33 = f_32 x_26.toNatClampNeg →
  (zaD (g.2.1 1) hp_27 r2 fun a_34 n_35 f_36 => vp_in x_25 n_35 ∧ ∀ x_37 : UInt64, x_37 = f_36 x_25.toNatClampNeg →
  (((Op.cmpValue (FP.dcmp x_33 x_37) .l) = 0 →
  (zaI (g.2.1 2) hp_27 r3 fun a_38 n_39 f_40 => vp_in x_25 n_39 ∧ zB g ≤ a_38 ∧ ∀ hp_41 : zHp, hp_41 = va_up hp_27 a_38 (some (.inl (g.2.1 2, n_39, .inl (va_up f_40 x_25.toNatClampNeg (vp_nar .byte x_26.toInt8.toInt32))))) →
  (∃ P_68 : Int32 → Int32 → Int32 → zHp → Nat → Prop, (∀ (x_42 : Int32) (x_43 : Int32) (x_44 : Int32) (hp_45 : zHp) (nx_46 : Nat), P_68 x_42 x_43 x_44 hp_45 nx_46 →
  (∀ x_47 : Int32, x_47 = x_43 + (1 : Int32) →
  (∃ k_48, k_48 < n_5 ∧ I_6 k_48 x_42 x_47 hp_45 nx_46))) ∧
  ((x_26 = x_25 →
  (∀ x_49 : Int32, x_49 = x_24 + (1 : Int32) →
  P_68 x_49 x_25 x_26 hp_41 nx_28)) ∧
  (¬ x_26 = x_25 →
  P_68 x_24 x_25 x_26 hp_41 nx_28))))) ∧
  (¬ (Op.cmpValue (FP.dcmp x_33 x_37) .l) = 0 →
  (∀ x_50 : Int32, x_50 = x_26 + (1 : Int32) →
  (∃ k_51, k_51 < n_29 ∧ I_33 k_51 x_24 x_25 x_50 hp_27 nx_28))))))))) ∧ zMt l g yX2_kept cX2_kept 5 (some .double) d 0 0 (.ref a_53 :: [.double x_16]) hp_6 nx_7 (zQd g PP_56)))))))))
set_option maxHeartbeats 40000000 in
theorem met_X1_keeps {l : Launch} {g : zG} {d : Nat} {r0 : Option Nat} {r1 : Option Nat} {r2 : Option Nat} {r3 : Option Nat} {hp : zHp} {nx : Nat} {Post : Int32 → zHp → Nat → Prop} (hw : wp_X1_keeps l g d r0 r1 r2 r3 hp nx Post) : zMt l g yX1_keeps cX1_keeps 7 (some .int) (d + 1) 0 0 [va_rf r0, va_rf r1, va_rf r2, va_rf r3] hp nx (zQi g Post) := by
  refine z_start (by decide) (by cases r0 <;> cases r1 <;> cases r2 <;> cases r3 <;> exact Nat.le_of_ble_eq_true rfl) ?_
  intro p e s m below meth c hk hr hin hH hz ls hl
  have hx := hk.1.1
  have hb := hk.1.2.1
  have hown := hk.1.2.2.2.1
  have hts := hk.1.2.2.2.2
  have hS : va_S (zAd g) s.heap s.heap [] := va_S.rf
  have hl : lv_has ls 7 [(0, va_rf r0), (1, va_rf r1), (2, va_rf r2), (3, va_rf r3)] := by cases r0 <;> cases r1 <;> cases r2 <;> cases r3 <;> exact hl
  unfold wp_X1_keeps at hw
  refine lv_iconst (v := (0 : Int32)) hx hb dX1_keeps_0 (by decide) ?_
  refine lv_istore (lv' := [(4, .int (0 : Int32)), (0, va_rf r0), (1, va_rf r1), (2, va_rf r2), (3, va_rf r3)]) hx hb dX1_keeps_1 hl (by decide) (by first | rfl | simp [List.filter_cons, z_cat, z_catI, z_catJ, z_catF, z_catD]) (fun ls hl => ?_)
  refine lv_iconst (v := (0 : Int32)) hx hb dX1_keeps_3 (by decide) ?_
  refine lv_istore (lv' := [(5, .int (0 : Int32)), (4, .int (0 : Int32)), (0, va_rf r0), (1, va_rf r1), (2, va_rf r2), (3, va_rf r3)]) hx hb dX1_keeps_4 hl (by decide) (by first | rfl | simp [List.filter_cons, z_cat, z_catI, z_catJ, z_catF, z_catD]) (fun ls hl => ?_)
  obtain ⟨I_6, ⟨n_60, hI⟩, hB_6⟩ := hw
  have hL_6 : ∀ (n_5 : Nat) (x_1 : Int32) (x_2 : Int32) (hp_3 : zHp) (nx_4 : Nat) (H : Heap) (locs : List Loc) (ls : Array Slot), I_6 n_5 x_1 x_2 hp_3 nx_4 → lv_has ls 7 [(0, va_rf r0), (1, va_rf r1), (2, va_rf r2), (3, va_rf r3), (4, .int x_1), (5, .int x_2)] → zHd g hp_3 H → H.size = nx_4 → va_S (zAd g) s.heap H locs → W p l e (zrm (d + 1) 0 0) s m ([va_rf r0, va_rf r1, va_rf r2, va_rf r3] : List Value).toArray below meth c H locs 0 0 (MQ below (zQi g Post) ([va_rf r0, va_rf r1, va_rf r2, va_rf r3] : List Value).toArray s 0 0 (zAd g)) (F0 m 6 ls []) := by
    intro n_5
    induction n_5 using Nat.strongRecOn with
    | _ n_5 ih_6 =>
      intro x_1 x_2 hp_3 nx_4 H locs ls hw hl hH hz hS
      have hw := hB_6 n_5 x_1 x_2 hp_3 nx_4 hw
      refine lv_iload hx hb dX1_keeps_6 (lv_at hl 5 rfl) ?_
      refine zr_aload_n (r := r0) hx hb dX1_keeps_8 rfl (lv_at hl 0 rfl) ?_
      obtain ⟨a_57, ci_58, fs_59, er, he, hc, hw⟩ := zo_e hw
      obtain rfl := List.mem_singleton.mp hc
      refine zr_calli (zw_runV (As := []) hk hH hz hS hl.1 er hw (cwV 0 hts (lw_V q2169 q1173 q1174 q196 q1175) rfl rfl rfl (by decide +kernel) (z_room (Nat.le_of_ble_eq_true rfl))) he rfl rfl rfl (Nat.le_of_ble_eq_true rfl) dX1_keeps_9 ⟨Nat.le_of_ble_eq_true rfl, Nat.le_of_ble_eq_true rfl⟩) hS (fun x_8 hp_6 nx_7 hw H locs hH hz hS => ?_)
      refine lv_icmp_ge (tgt := 74) hx hb dX1_keeps_12 (by decide) (fun hc => ?_) (fun hc => ?_)
      · have hw := hw.1 hc
        refine lv_iload hx hb dX1_keeps_74 (lv_at hl 4 rfl) ?_
        exact zr_iret hk hr hH hz hS hw (Nat.le_of_ble_eq_true rfl) (Nat.le_of_ble_eq_true rfl) dX1_keeps_76
      · have hw := hw.2 hc
        refine zr_aload_n (r := r2) hx hb dX1_keeps_15 rfl (lv_at hl 2 rfl) ?_
        refine lv_iload hx hb dX1_keeps_16 (lv_at hl 5 rfl) ?_
        refine zr_aload_n (r := r1) hx hb dX1_keeps_18 rfl (lv_at hl 1 rfl) ?_
        refine zr_aload_n (r := r0) hx hb dX1_keeps_19 rfl (lv_at hl 0 rfl) ?_
        obtain ⟨a_9, ci_10, fs_11, r_12, er, he, hc, hv, hw⟩ := zgR_e hw
        refine zw_get hk hH er he hv (fk_X1_57 hc) dX1_keeps_20 ?_
        refine lv_iload hx hb dX1_keeps_23 (lv_at hl 5 rfl) ?_
        obtain ⟨a_13, n_14, f_15, er, he, hi, hw⟩ := zaD_e hw
        have hw := hw _ rfl
        refine zw_dald hk hH er he hi dX1_keeps_25 ?_
        generalize f_15 x_2.toNatClampNeg = x_16 at hw ⊢
        obtain ⟨a_53, ci_54, fs_55, er, he, hc, PP_56, hPP, hw⟩ := zo_e hw
        have hC : ∀ (x_19 : UInt64) (hp_17 : zHp) (nx_18 : Nat), PP_56 x_19 hp_17 nx_18 → ∀ (H : Heap) (locs : List Loc), zHd g hp_17 H → H.size = nx_18 → va_S (zAd g) s.heap H locs → W p l e (zrm (d + 1) 0 0) s m ([va_rf r0, va_rf r1, va_rf r2, va_rf r3] : List Value).toArray below meth c H locs (0 + 0) (0 + 0) (MQ below (zQi g Post) ([va_rf r0, va_rf r1, va_rf r2, va_rf r3] : List Value).toArray s 0 0 (zAd g)) (F0 m 29 ls [.double x_19, .int x_2, va_rf r2]) := by
          intro x_19 hp_17 nx_18 hw H locs hH hz hS
          have hw := hPP x_19 hp_17 nx_18 hw
          obtain ⟨a_20, n_21, f_22, er, he, hi, hA, hw⟩ := zaD_e hw
          obtain ⟨hp_23, eh⟩ : ∃ y : zHp, y = va_up hp_17 a_20 (some (.inl (g.2.1 1, n_21, .inr (.inr (.inr (.inl (va_up f_22 x_2.toNatClampNeg x_19))))))) := ⟨_, rfl⟩
          have hw := hw hp_23 eh
          refine zw_dast hk hH hz hS er he hi hA eh dX1_keeps_29 (fun H locs hH hz hS => ?_)
          refine lv_iconst (v := (0 : Int32)) hx hb dX1_keeps_30 (by decide) ?_
          refine lv_istore (lv' := [(6, .int (0 : Int32)), (0, va_rf r0), (1, va_rf r1), (2, va_rf r2), (3, va_rf r3), (4, .int x_1), (5, .int x_2)]) hx hb dX1_keeps_31 hl (by decide) (by first | rfl | simp [List.filter_cons, z_cat, z_catI, z_catJ, z_catF, z_catD]) (fun ls hl => ?_)
          obtain ⟨I_33, ⟨n_52, hI⟩, hB_33⟩ := hw
          have hL_33 : ∀ (n_29 : Nat) (x_24 : Int32) (x_25 : Int32) (x_26 : Int32) (hp_27 : zHp) (nx_28 : Nat) (H : Heap) (locs : List Loc) (ls : Array Slot), I_33 n_29 x_24 x_25 x_26 hp_27 nx_28 → lv_has ls 7 [(0, va_rf r0), (1, va_rf r1), (2, va_rf r2), (3, va_rf r3), (4, .int x_24), (5, .int x_25), (6, .int x_26)] → zHd g hp_27 H → H.size = nx_28 → va_S (zAd g) s.heap H locs → W p l e (zrm (d + 1) 0 0) s m ([va_rf r0, va_rf r1, va_rf r2, va_rf r3] : List Value).toArray below meth c H locs 0 0 (MQ below (zQi g Post) ([va_rf r0, va_rf r1, va_rf r2, va_rf r3] : List Value).toArray s 0 0 (zAd g)) (F0 m 33 ls []) := by
            intro n_29
            induction n_29 using Nat.strongRecOn with
            | _ n_29 ih_33 =>
              intro x_24 x_25 x_26 hp_27 nx_28 H locs ls hw hl hH hz hS
              have hw := hB_33 n_29 x_24 x_25 x_26 hp_27 nx_28 hw
              refine zr_aload_n (r := r2) hx hb dX1_keeps_33 rfl (lv_at hl 2 rfl) ?_
              refine lv_iload hx hb dX1_keeps_34 (lv_at hl 6 rfl) ?_
              obtain ⟨a_30, n_31, f_32, er, he, hi, hw⟩ := zaD_e hw
              have hw := hw _ rfl
              refine zw_dald hk hH er he hi dX1_keeps_36 ?_
              generalize f_32 x_26.toNatClampNeg = x_33 at hw ⊢
              refine zr_aload_n (r := r2) hx hb dX1_keeps_37 rfl (lv_at hl 2 rfl) ?_
              refine lv_iload hx hb dX1_keeps_38 (lv_at hl 5 rfl) ?_
              obtain ⟨a_34, n_35, f_36, er, he, hi, hw⟩ := zaD_e hw
              have hw := hw _ rfl
              refine zw_dald hk hH er he hi dX1_keeps_40 ?_
              generalize f_36 x_25.toNatClampNeg = x_37 at hw ⊢
              refine lv_dcmp hx hb dX1_keeps_41 ?_
              refine lv_if_eq (tgt := 51) hx hb dX1_keeps_42 (by decide) (fun hc => ?_) (fun hc => ?_)
              · have hw := hw.1 hc
                refine zr_aload_n (r := r3) hx hb dX1_keeps_51 rfl (lv_at hl 3 rfl) ?_
                refine lv_iload hx hb dX1_keeps_52 (lv_at hl 5 rfl) ?_
                refine lv_iload hx hb dX1_keeps_54 (lv_at hl 6 rfl) ?_
                refine lv_i2b hx hb dX1_keeps_56 rfl ?_
                obtain ⟨a_38, n_39, f_40, er, he, hi, hA, hw⟩ := zaI_e hw
                obtain ⟨hp_41, eh⟩ : ∃ y : zHp, y = va_up hp_27 a_38 (some (.inl (g.2.1 2, n_39, .inl (va_up f_40 x_25.toNatClampNeg (vp_nar .byte x_26.toInt8.toInt32))))) := ⟨_, rfl⟩
                have hw := hw hp_41 eh
                refine zw_bast hk hH hz hS er he hi hA eh dX1_keeps_57 (fun H locs hH hz hS => ?_)
                refine lv_iload hx hb dX1_keeps_58 (lv_at hl 6 rfl) ?_
                refine lv_iload hx hb dX1_keeps_60 (lv_at hl 5 rfl) ?_
                obtain ⟨P_68, hP_68, hw⟩ := hw
                have hJ_68 : ∀ (x_42 : Int32) (x_43 : Int32) (x_44 : Int32) (hp_45 : zHp) (nx_46 : Nat) (H : Heap) (locs : List Loc) (ls : Array Slot), P_68 x_42 x_43 x_44 hp_45 nx_46 → lv_has ls 7 [(0, va_rf r0), (1, va_rf r1), (2, va_rf r2), (3, va_rf r3), (4, .int x_42), (5, .int x_43), (6, .int x_44)] → zHd g hp_45 H → H.size = nx_46 → va_S (zAd g) s.heap H locs → W p l e (zrm (d + 1) 0 0) s m ([va_rf r0, va_rf r1, va_rf r2, va_rf r3] : List Value).toArray below meth c H locs 0 0 (MQ below (zQi g Post) ([va_rf r0, va_rf r1, va_rf r2, va_rf r3] : List Value).toArray s 0 0 (zAd g)) (F0 m 68 ls []) := by
                  intro x_42 x_43 x_44 hp_45 nx_46 H locs ls hw hl hH hz hS
                  have hw := hP_68 x_42 x_43 x_44 hp_45 nx_46 hw
                  obtain ⟨x_47, ex_47⟩ : ∃ y : Int32, y = x_43 + (1 : Int32) := ⟨_, rfl⟩
                  have hw := hw x_47 ex_47
                  refine lv_iinc (v := x_47) (lv' := [(5, .int x_47), (0, va_rf r0), (1, va_rf r1), (2, va_rf r2), (3, va_rf r3), (4, .int x_42), (6, .int x_44)]) hx hb dX1_keeps_68 hl (k := 5) rfl (by rw [ex_47]; rfl) (by decide) (by first | rfl | simp [List.filter_cons, z_cat, z_catI, z_catJ, z_catF, z_catD]) (fun ls hl => ?_)
                  refine lv_goto (tgt := 6) hx hb dX1_keeps_71 (by decide) ?_
                  obtain ⟨k_48, hlt, hw⟩ := hw
                  exact ih_6 k_48 hlt x_42 x_47 hp_45 nx_46 _ _ _ hw (lv_sub hl [1, 2, 3, 4, 5, 0] rfl) hH hz hS
                refine lv_icmp_ne (tgt := 68) hx hb dX1_keeps_62 (by decide) (fun hc => ?_) (fun hc => ?_)
                · have hw := hw.2 hc
                  exact hJ_68 x_24 x_25 x_26 hp_41 nx_28 _ _ _ hw hl hH hz hS
                · have hw := hw.1 hc
                  obtain ⟨x_49, ex_49⟩ : ∃ y : Int32, y = x_24 + (1 : Int32) := ⟨_, rfl⟩
                  have hw := hw x_49 ex_49
                  refine lv_iinc (v := x_49) (lv' := [(4, .int x_49), (0, va_rf r0), (1, va_rf r1), (2, va_rf r2), (3, va_rf r3), (5, .int x_25), (6, .int x_26)]) hx hb dX1_keeps_65 hl (k := 4) rfl (by rw [ex_49]; rfl) (by decide) (by first | rfl | simp [List.filter_cons, z_cat, z_catI, z_catJ, z_catF, z_catD]) (fun ls hl => ?_)
                  exact hJ_68 x_49 x_25 x_26 hp_41 nx_28 _ _ _ hw (lv_sub hl [1, 2, 3, 4, 0, 5, 6] rfl) hH hz hS
              · have hw := hw.2 hc
                obtain ⟨x_50, ex_50⟩ : ∃ y : Int32, y = x_26 + (1 : Int32) := ⟨_, rfl⟩
                have hw := hw x_50 ex_50
                refine lv_iinc (v := x_50) (lv' := [(6, .int x_50), (0, va_rf r0), (1, va_rf r1), (2, va_rf r2), (3, va_rf r3), (4, .int x_24), (5, .int x_25)]) hx hb dX1_keeps_45 hl (k := 6) rfl (by rw [ex_50]; rfl) (by decide) (by first | rfl | simp [List.filter_cons, z_cat, z_catI, z_catJ, z_catF, z_catD]) (fun ls hl => ?_)
                refine lv_goto (tgt := 33) hx hb dX1_keeps_48 (by decide) ?_
                obtain ⟨k_51, hlt, hw⟩ := hw
                exact ih_33 k_51 hlt x_24 x_25 x_50 hp_27 nx_28 _ _ _ hw (lv_sub hl [1, 2, 3, 4, 5, 6, 0] rfl) hH hz hS
          exact hL_33 n_52 x_1 x_2 (0 : Int32) hp_23 nx_18 _ _ _ hI (lv_sub hl [1, 2, 3, 4, 5, 6, 0] rfl) hH hz hS
        simp only [List.mem_cons, List.not_mem_nil, or_false] at hc
        rcases hc with rfl | rfl | rfl | rfl | rfl | rfl
        · exact zr_calld (zw_runV (As := [.double x_16]) hk hH hz hS hl.1 er (hw) (cwV 1 hts (lw_V q2170 q1981 q1982 q152 q1989) rfl rfl rfl (by decide +kernel) (z_room (Nat.le_of_ble_eq_true rfl))) he rfl rfl rfl (by simp only [List.map_cons, List.map_nil, z_cat]; exact Nat.le_of_ble_eq_true rfl) dX1_keeps_26 ⟨Nat.le_of_ble_eq_true rfl, Nat.le_of_ble_eq_true rfl⟩) hS hC
        · exact zr_calld (zw_runU (As := [.double x_16]) hk hH hz hS hl.1 er (hw) (va_cwU 1 hts (z_U q2170 q1983 q1988 q1981 q152 q1989) rfl rfl rfl rfl (by decide +kernel) (z_room (Nat.le_of_ble_eq_true rfl))) he rfl rfl rfl (by simp only [List.map_cons, List.map_nil, z_cat]; exact Nat.le_of_ble_eq_true rfl) dX1_keeps_26 ⟨Nat.le_of_ble_eq_true rfl, Nat.le_of_ble_eq_true rfl⟩) hS hC
        · exact zr_calld (zw_runU (As := [.double x_16]) hk hH hz hS hl.1 er (hw) (va_cwU 1 hts (z_U q2170 q1983 q1985 q1981 q152 q1989) rfl rfl rfl rfl (by decide +kernel) (z_room (Nat.le_of_ble_eq_true rfl))) he rfl rfl rfl (by simp only [List.map_cons, List.map_nil, z_cat]; exact Nat.le_of_ble_eq_true rfl) dX1_keeps_26 ⟨Nat.le_of_ble_eq_true rfl, Nat.le_of_ble_eq_true rfl⟩) hS hC
        · exact zr_calld (zw_runU (As := [.double x_16]) hk hH hz hS hl.1 er (hw) (va_cwU 1 hts (z_U q2170 q1983 q1986 q1981 q152 q1989) rfl rfl rfl rfl (by decide +kernel) (z_room (Nat.le_of_ble_eq_true rfl))) he rfl rfl rfl (by simp only [List.map_cons, List.map_nil, z_cat]; exact Nat.le_of_ble_eq_true rfl) dX1_keeps_26 ⟨Nat.le_of_ble_eq_true rfl, Nat.le_of_ble_eq_true rfl⟩) hS hC
        · exact zr_calld (zw_runU (As := [.double x_16]) hk hH hz hS hl.1 er (hw) (va_cwU 1 hts (z_U q2170 q1983 q1987 q1981 q152 q1989) rfl rfl rfl rfl (by decide +kernel) (z_room (Nat.le_of_ble_eq_true rfl))) he rfl rfl rfl (by simp only [List.map_cons, List.map_nil, z_cat]; exact Nat.le_of_ble_eq_true rfl) dX1_keeps_26 ⟨Nat.le_of_ble_eq_true rfl, Nat.le_of_ble_eq_true rfl⟩) hS hC
        · exact zr_calld (zw_runU (As := [.double x_16]) hk hH hz hS hl.1 er (hw) (va_cwU 1 hts (z_U q2170 q1983 q1984 q1981 q152 q1989) rfl rfl rfl rfl (by decide +kernel) (z_room (Nat.le_of_ble_eq_true rfl))) he rfl rfl rfl (by simp only [List.map_cons, List.map_nil, z_cat]; exact Nat.le_of_ble_eq_true rfl) dX1_keeps_26 ⟨Nat.le_of_ble_eq_true rfl, Nat.le_of_ble_eq_true rfl⟩) hS hC
  exact hL_6 n_60 (0 : Int32) (0 : Int32) hp nx _ _ _ hI (lv_sub hl [2, 3, 4, 5, 1, 0] rfl) hH hz hS
theorem cz_10 {ci : Nat} (h : ci ∈ [10]) : ∃ (C : String) (T : u_T) (N : Nat), zcl[ci]? = some (C, T, N) := by
  simp only [List.mem_cons, List.not_mem_nil, or_false] at h
  rcases h with rfl <;> exact ⟨_, _, _, rfl⟩
def wp_X10_fits (l : Launch) (g : zG) (d : Nat) (h0 : Nat) (x1 : UInt64) (hp : zHp) (nx : Nat) (Post : UInt64 → zHp → Nat → Prop) : Prop :=
  (zo hp (some h0) [10] fun a_8 ci_9 fs_10 => zMt l g yX2_fits cX2_fits 3 (some .double) d 0 0 (.ref a_8 :: [.double x1]) hp nx (zQd g fun x_3 hp_1 nx_2 =>
  (∃ P_35 : UInt64 → UInt64 → zHp → Nat → Prop, (∀ (x_4 : UInt64) (x_5 : UInt64) (hp_6 : zHp) (nx_7 : Nat), P_35 x_4 x_5 hp_6 nx_7 →
  (Post x_5 hp_6 nx_7)) ∧
  ((0 ≤ (Op.cmpValue (FP.dcmp x_3 (13875379345695965184 : UInt64)) .g) →
  (((Op.cmpValue (FP.dcmp x_3 (4652007308841189376 : UInt64)) .l) ≤ 0 →
  P_35 x_3 x_3 hp_1 nx_2) ∧
  (¬ (Op.cmpValue (FP.dcmp x_3 (4652007308841189376 : UInt64)) .l) ≤ 0 →
  P_35 x_3 (4652007308841189376 : UInt64) hp_1 nx_2))) ∧
  (¬ 0 ≤ (Op.cmpValue (FP.dcmp x_3 (13875379345695965184 : UInt64)) .g) →
  P_35 x_3 (13875379345695965184 : UInt64) hp_1 nx_2)))))
set_option maxHeartbeats 40000000 in
theorem met_X10_fits {l : Launch} {g : zG} {d : Nat} {h0 : Nat} {x1 : UInt64} {hp : zHp} {nx : Nat} {Post : UInt64 → zHp → Nat → Prop} (hw : wp_X10_fits l g d h0 x1 hp nx Post) : zMt l g yX10_fits cX10_fits 5 (some .double) (d + 1) 0 0 [.ref h0, .double x1] hp nx (zQd g Post) := by
  refine z_start (by decide) (Nat.le_of_ble_eq_true rfl) ?_
  intro p e s m below meth c hk hr hin hH hz ls hl
  have hx := hk.1.1
  have hb := hk.1.2.1
  have hown := hk.1.2.2.2.1
  have hts := hk.1.2.2.2.2
  have hS : va_S (zAd g) s.heap s.heap [] := va_S.rf
  have hl : lv_has ls 5 [(0, va_rf (some h0)), (1, .double x1)] := hl
  unfold wp_X10_fits at hw
  refine zr_aload_n (r := some h0) hx hb dX10_fits_0 rfl (lv_at hl 0 rfl) ?_
  refine lv_dload_n hx hb dX10_fits_1 rfl (lv_at hl 1 rfl) ?_
  obtain ⟨a_8, ci_9, fs_10, er, he, hc, hw⟩ := zo_e hw
  obtain ⟨C_, T_, N_, hcl_⟩ := cz_10 hc
  refine zr_calld (zw_runSU (C := C_) (As := [.double x1]) hk hH hz hS hl.1 er hw (va_cwSU 1 hts (z_SU q1997 q1993 q1998 q1991 q152 q2022) rfl rfl rfl (by decide +kernel) (z_room (Nat.le_of_ble_eq_true rfl))) he hcl_ rfl rfl (Nat.le_of_ble_eq_true rfl) dX10_fits_2 ⟨Nat.le_of_ble_eq_true rfl, Nat.le_of_ble_eq_true rfl⟩) hS (fun x_3 hp_1 nx_2 hw H locs hH hz hS => ?_)
  refine lv_dstore_n (i := 3) (lv' := [(3, .double x_3), (0, va_rf (some h0)), (1, .double x1)]) hx hb dX10_fits_5 rfl hl (by decide) (by first | rfl | simp [List.filter_cons, z_cat, z_catI, z_catJ, z_catF, z_catD]) (fun ls hl => ?_)
  refine lv_dload_n hx hb dX10_fits_6 rfl (lv_at hl 0 rfl) ?_
  refine lv_ldc2d hx hb hown (hts _ q1999) dX10_fits_7 ?_
  refine lv_dcmp hx hb dX10_fits_10 ?_
  obtain ⟨P_35, hP_35, hw⟩ := hw
  have hJ_35 : ∀ (x_4 : UInt64) (x_5 : UInt64) (hp_6 : zHp) (nx_7 : Nat) (H : Heap) (locs : List Loc) (ls : Array Slot), P_35 x_4 x_5 hp_6 nx_7 → lv_has ls 5 [(0, va_rf (some h0)), (1, .double x1), (3, .double x_4)] → zHd g hp_6 H → H.size = nx_7 → va_S (zAd g) s.heap H locs → W p l e (zrm (d + 1) 0 0) s m ([.ref h0, .double x1] : List Value).toArray below meth c H locs 0 0 (MQ below (zQd g Post) ([.ref h0, .double x1] : List Value).toArray s 0 0 (zAd g)) (F0 m 35 ls [.double x_5]) := by
    intro x_4 x_5 hp_6 nx_7 H locs ls hw hl hH hz hS
    have hw := hP_35 x_4 x_5 hp_6 nx_7 hw
    exact zr_dret hk hr hH hz hS hw (Nat.le_of_ble_eq_true rfl) (Nat.le_of_ble_eq_true rfl) dX10_fits_35
  refine lv_if_ge (tgt := 20) hx hb dX10_fits_11 (by decide) (fun hc => ?_) (fun hc => ?_)
  · have hw := hw.1 hc
    refine lv_dload_n hx hb dX10_fits_20 rfl (lv_at hl 0 rfl) ?_
    refine lv_ldc2d hx hb hown (hts _ q2000) dX10_fits_21 ?_
    refine lv_dcmp hx hb dX10_fits_24 ?_
    refine lv_if_le (tgt := 34) hx hb dX10_fits_25 (by decide) (fun hc => ?_) (fun hc => ?_)
    · have hw := hw.1 hc
      refine lv_dload_n hx hb dX10_fits_34 rfl (lv_at hl 0 rfl) ?_
      exact hJ_35 x_3 x_3 hp_1 nx_2 _ _ _ hw (lv_sub hl [1, 2, 0] rfl) hH hz hS
    · have hw := hw.2 hc
      refine lv_ldc2d hx hb hown (hts _ q2000) dX10_fits_28 ?_
      refine lv_goto (tgt := 35) hx hb dX10_fits_31 (by decide) ?_
      exact hJ_35 x_3 (4652007308841189376 : UInt64) hp_1 nx_2 _ _ _ hw (lv_sub hl [1, 2, 0] rfl) hH hz hS
  · have hw := hw.2 hc
    refine lv_ldc2d hx hb hown (hts _ q1999) dX10_fits_14 ?_
    refine lv_goto (tgt := 35) hx hb dX10_fits_17 (by decide) ?_
    exact hJ_35 x_3 (13875379345695965184 : UInt64) hp_1 nx_2 _ _ _ hw (lv_sub hl [1, 2, 0] rfl) hH hz hS
def wp_X10_kind (l : Launch) (g : zG) (d : Nat) (h0 : Nat) (hp : zHp) (nx : Nat) (Post : Int32 → zHp → Nat → Prop) : Prop :=
  (Post (5 : Int32) hp nx)
set_option maxHeartbeats 40000000 in
theorem met_X10_kind {l : Launch} {g : zG} {d : Nat} {h0 : Nat} {hp : zHp} {nx : Nat} {Post : Int32 → zHp → Nat → Prop} (hw : wp_X10_kind l g d h0 hp nx Post) : zMt l g yX10_kind cX10_kind 1 (some .int) (d + 1) 0 0 [.ref h0] hp nx (zQi g Post) := by
  refine z_start (by decide) (Nat.le_of_ble_eq_true rfl) ?_
  intro p e s m below meth c hk hr hin hH hz ls hl
  have hx := hk.1.1
  have hb := hk.1.2.1
  have hown := hk.1.2.2.2.1
  have hts := hk.1.2.2.2.2
  have hS : va_S (zAd g) s.heap s.heap [] := va_S.rf
  have hl : lv_has ls 1 [(0, va_rf (some h0))] := hl
  unfold wp_X10_kind at hw
  refine lv_iconst (v := (5 : Int32)) hx hb dX10_kind_0 (by decide) ?_
  exact zr_iret hk hr hH hz hS hw (Nat.le_of_ble_eq_true rfl) (Nat.le_of_ble_eq_true rfl) dX10_kind_1
def wp_X10_init (l : Launch) (g : zG) (d : Nat) (h0 : Nat) (x1 : Int32) (hp : zHp) (nx : Nat) (Post : zHp → Nat → Prop) : Prop :=
  (zMt l g yX2_init cX2_init 2 none d 0 0 (.ref h0 :: [.int x1]) hp nx (zQv g fun hp_1 nx_2 =>
  (Post hp_1 nx_2)))
set_option maxHeartbeats 40000000 in
theorem met_X10_init {l : Launch} {g : zG} {d : Nat} {h0 : Nat} {x1 : Int32} {hp : zHp} {nx : Nat} {Post : zHp → Nat → Prop} (hw : wp_X10_init l g d h0 x1 hp nx Post) : zMt l g yX10_init cX10_init 2 none (d + 1) 0 0 [.ref h0, .int x1] hp nx (zQv g Post) := by
  refine z_start (by decide) (Nat.le_of_ble_eq_true rfl) ?_
  intro p e s m below meth c hk hr hin hH hz ls hl
  have hx := hk.1.1
  have hb := hk.1.2.1
  have hown := hk.1.2.2.2.1
  have hts := hk.1.2.2.2.2
  have hS : va_S (zAd g) s.heap s.heap [] := va_S.rf
  have hl : lv_has ls 2 [(0, va_rf (some h0)), (1, .int x1)] := hl
  unfold wp_X10_init at hw
  refine zr_aload_n (r := some h0) hx hb dX10_init_0 rfl (lv_at hl 0 rfl) ?_
  refine lv_iload_n hx hb dX10_init_1 rfl (lv_at hl 1 rfl) ?_
  refine zr_callv (zw_runI (As := [.int x1]) (r := some h0) hk hH hz hS hl.1 rfl hw (cwI 1 hts (lw_meth q653) rfl rfl rfl (hts _ q152) (hts _ q2095) (hts _ q652) rfl (by decide +kernel) (z_room (Nat.le_of_ble_eq_true rfl))) rfl rfl (Nat.le_of_ble_eq_true rfl) dX10_init_2 ⟨Nat.le_of_ble_eq_true rfl, Nat.le_of_ble_eq_true rfl⟩) hS (fun hp_1 nx_2 hw H locs hH hz hS => ?_)
  exact zr_vret hk hr hH hz hS hw (Nat.le_of_ble_eq_true rfl) (Nat.le_of_ble_eq_true rfl) dX10_init_5
theorem ff_X11_3 {ci : Nat} (h : ci ∈ [11]) : zFf "WhatIfSheet$Reader" 3 ci 9 (.object "WhatIfSheet") := by
  simp only [List.mem_cons, List.not_mem_nil, or_false] at h
  rcases h with rfl
  · exact ⟨RX11, TX11, 10, rfl, by decide, q1367, rfl, rfl, by decide +kernel⟩
theorem no_X11_15 : zNo "WhatIfSheet$Reader" 15 34 := ⟨RJ0, TJ0, 3, rfl, q1327, q280, q133⟩
theorem ff_X11_20 {ci : Nat} (h : ci ∈ [11]) : zFf "WhatIfSheet$Reader" 20 ci 7 (.object "java/util/BitSet") := by
  simp only [List.mem_cons, List.not_mem_nil, or_false] at h
  rcases h with rfl
  · exact ⟨RX11, TX11, 10, rfl, by decide, q1365, rfl, rfl, by decide +kernel⟩
theorem no_X11_24 : zNo "WhatIfSheet$Reader" 24 36 := ⟨RJ27, TJ27, 4, rfl, q1329, q984, q173⟩
theorem ff_X11_27 {ci : Nat} (h : ci ∈ [11]) : zFf "WhatIfSheet$Reader" 27 ci 8 (.object "java/util/LinkedList") := by
  simp only [List.mem_cons, List.not_mem_nil, or_false] at h
  rcases h with rfl
  · exact ⟨RX11, TX11, 10, rfl, by decide, q1366, rfl, rfl, by decide +kernel⟩
def wp_X11_init (l : Launch) (g : zG) (d : Nat) (mc ms : Nat) (h0 : Nat) (r1 : Option Nat) (hp : zHp) (nx : Nat) (Post : zHp → Nat → Prop) : Prop :=
  (zpt g hp (some h0) [11] 9 (va_rf r1) fun hp_4 =>
  (znw g mc ms hp_4 nx 0 0 34 fun hp_5 =>
  ∀ nx_6 kc_7 ks_8 : Nat, nx_6 = (nx + 1) → kc_7 = (0 + 1) → ks_8 = (0 + zNn 34) →
  (∃ c_9 s_10 : Nat, kc_7 + c_9 ≤ mc ∧ ks_8 + s_10 ≤ ms ∧ zMt l g yJ0_init cJ0_init 2 none d c_9 s_10 (.ref nx :: [.int (24 : Int32)]) hp_5 nx_6 (zQv g fun hp_11 nx_12 =>
  (zpt g hp_11 (some h0) [11] 7 (va_rf (some nx)) fun hp_16 =>
  (znw g mc ms hp_16 nx_12 (kc_7 + c_9) (ks_8 + s_10) 36 fun hp_17 =>
  ∀ nx_18 kc_19 ks_20 : Nat, nx_18 = (nx_12 + 1) → kc_19 = ((kc_7 + c_9) + 1) → ks_20 = ((ks_8 + s_10) + zNn 36) →
  (kc_19 ≤ mc ∧ ks_20 ≤ ms ∧ zMt l g yJ27_init cJ27_init 1 none d 0 0 (.ref nx_12 :: []) hp_17 nx_18 (zQv g fun hp_21 nx_22 =>
  (zpt g hp_21 (some h0) [11] 8 (va_rf (some nx_12)) fun hp_26 =>
  (kc_19 ≤ mc ∧ ks_20 ≤ ms ∧ Post hp_26 nx_22))))))))))
set_option maxHeartbeats 40000000 in
theorem met_X11_init {l : Launch} {g : zG} {d : Nat} {mc ms : Nat} {h0 : Nat} {r1 : Option Nat} {hp : zHp} {nx : Nat} {Post : zHp → Nat → Prop} (hw : wp_X11_init l g d mc ms h0 r1 hp nx Post) : zMt l g yX11_init cX11_init 2 none (d + 1) mc ms [.ref h0, va_rf r1] hp nx (zQv g Post) := by
  refine z_start (by decide) (by cases r1 <;> exact Nat.le_of_ble_eq_true rfl) ?_
  intro p e s m below meth c hk hr hin hH hz ls hl
  have hx := hk.1.1
  have hb := hk.1.2.1
  have hown := hk.1.2.2.2.1
  have hts := hk.1.2.2.2.2
  have hS : va_S (zAd g) s.heap s.heap [] := va_S.rf
  have hl : lv_has ls 2 [(0, va_rf (some h0)), (1, va_rf r1)] := by cases r1 <;> exact hl
  unfold wp_X11_init at hw
  refine zr_aload_n (r := some h0) hx hb dX11_init_0 rfl (lv_at hl 0 rfl) ?_
  refine zr_aload_n (r := r1) hx hb dX11_init_1 rfl (lv_at hl 1 rfl) ?_
  obtain ⟨a_1, ci_2, fs_3, hp_4, er, he, hc, hA, hkl, eh, hw⟩ := zpt_e hw
  refine zw_putF hk hin hH hz hS er he hA hkl eh (ff_X11_3 hc) (z_narR _ _) (z_fitR _ _) dX11_init_2 (fun H locs hH hz hS => ?_)
  refine zr_aload_n (r := some h0) hx hb dX11_init_5 rfl (lv_at hl 0 rfl) ?_
  refine W.objInit (a := h0) hx hb hown (hts _ q1326) (hts _ q206) (hts _ q207) rfl (by rw [hk.1.2.2.1]; exact hl.1) rfl dX11_init_6 (Nat.le_add_left 1 d) (Nat.le_trans (Nat.le_of_ble_eq_true rfl : _ ≤ 64) (by show 64 ≤ 64 * (d + 1); omega)) ?_
  refine W.eq (g2 := F0 m 9 ls []) rfl ?_
  refine zr_aload_n (r := some h0) hx hb dX11_init_9 rfl (lv_at hl 0 rfl) ?_
  obtain ⟨hcl, hsl, hw⟩ := hw
  refine zx_new hk hH hz hS (ci := 34) no_X11_15 hcl hsl dX11_init_10 (fun H hH hz hS hlt hnb => ?_)
  have hw := hw hlt hnb
  generalize va_up hp_4 nx _ = hp_5 at hH hw
  obtain ⟨kc_7, ekc⟩ : ∃ k, k = (0 + 1) := ⟨_, rfl⟩
  obtain ⟨ks_8, eks⟩ : ∃ k, k = (0 + zNn 34) := ⟨_, rfl⟩
  have hw := hw _ _ _ rfl ekc eks
  refine W.widen (Nat.le_of_eq ekc.symm) (Nat.le_of_eq eks.symm) ?_
  clear ekc eks
  generalize (nx + 1) = nx_6 at hz hw
  refine lv_dup hx hb dX11_init_13 (z_cat _) ?_
  refine lv_bipush (v := (24 : Int32)) hx hb dX11_init_14 (by decide) ?_
  obtain ⟨c_9, s_10, hcl, hsl, hw⟩ := hw
  refine zr_callv (zw_runI (As := [.int (24 : Int32)]) (r := some nx) hk hH hz hS hl.1 rfl hw (cwI 1 hts (lw_meth q283) rfl rfl rfl (hts _ q133) (hts _ q1328) (hts _ q282) rfl (by decide +kernel) (z_room (Nat.le_of_ble_eq_true rfl))) rfl rfl (by simp only [List.map_cons, List.map_nil, z_cat]; exact Nat.le_of_ble_eq_true rfl) dX11_init_16 ⟨hcl, hsl⟩) hS (fun hp_11 nx_12 hw H locs hH hz hS => ?_)
  obtain ⟨a_13, ci_14, fs_15, hp_16, er, he, hc, hA, hkl, eh, hw⟩ := zpt_e hw
  refine zw_putF hk hin hH hz hS er he hA hkl eh (ff_X11_20 hc) (z_narR _ _) (z_fitR _ _) dX11_init_19 (fun H locs hH hz hS => ?_)
  refine zr_aload_n (r := some h0) hx hb dX11_init_22 rfl (lv_at hl 0 rfl) ?_
  obtain ⟨hcl, hsl, hw⟩ := hw
  refine zx_new hk hH hz hS (ci := 36) no_X11_24 hcl hsl dX11_init_23 (fun H hH hz hS hlt hnb => ?_)
  have hw := hw hlt hnb
  generalize va_up hp_16 nx_12 _ = hp_17 at hH hw
  obtain ⟨kc_19, ekc⟩ : ∃ k, k = ((kc_7 + c_9) + 1) := ⟨_, rfl⟩
  obtain ⟨ks_20, eks⟩ : ∃ k, k = ((ks_8 + s_10) + zNn 36) := ⟨_, rfl⟩
  have hw := hw _ _ _ rfl ekc eks
  refine W.widen (Nat.le_of_eq ekc.symm) (Nat.le_of_eq eks.symm) ?_
  clear ekc eks
  generalize (nx_12 + 1) = nx_18 at hz hw
  refine lv_dup hx hb dX11_init_26 (z_cat _) ?_
  obtain ⟨hcl, hsl, hw⟩ := hw
  refine zr_callv (zw_runI (As := []) (r := some nx_12) hk hH hz hS hl.1 rfl hw (cwI 0 hts (lw_meth q1332) rfl rfl rfl (hts _ q173) (hts _ q1330) (hts _ q1331) rfl (by decide +kernel) (z_room (Nat.le_of_ble_eq_true rfl))) rfl rfl (by simp only [List.map_cons, List.map_nil, z_cat]; exact Nat.le_of_ble_eq_true rfl) dX11_init_27 ⟨hcl, hsl⟩) hS (fun hp_21 nx_22 hw H locs hH hz hS => ?_)
  obtain ⟨a_23, ci_24, fs_25, hp_26, er, he, hc, hA, hkl, eh, hw⟩ := zpt_e hw
  refine zw_putF hk hin hH hz hS er he hA hkl eh (ff_X11_27 hc) (z_narR _ _) (z_fitR _ _) dX11_init_30 (fun H locs hH hz hS => ?_)
  obtain ⟨hkc, hks, hw⟩ := hw
  exact zr_vret hk hr hH hz hS hw hkc hks dX11_init_33
theorem fk_X11_52 {ci : Nat} (h : ci ∈ [11]) : zFk "WhatIfSheet$Reader" 52 ci 3 := by
  simp only [List.mem_cons, List.not_mem_nil, or_false] at h
  rcases h with rfl
  · exact ⟨RX11, TX11, 10, rfl, by decide, q1361⟩
theorem fk_X11_56 {ci : Nat} (h : ci ∈ [11]) : zFk "WhatIfSheet$Reader" 56 ci 4 := by
  simp only [List.mem_cons, List.not_mem_nil, or_false] at h
  rcases h with rfl
  · exact ⟨RX11, TX11, 10, rfl, by decide, q1362⟩
theorem fk_X11_59 {ci : Nat} (h : ci ∈ [11]) : zFk "WhatIfSheet$Reader" 59 ci 5 := by
  simp only [List.mem_cons, List.not_mem_nil, or_false] at h
  rcases h with rfl
  · exact ⟨RX11, TX11, 10, rfl, by decide, q1363⟩
theorem no_X11_263 : zNo "WhatIfSheet$Reader" 263 30 := ⟨RX30, TX30, 3, rfl, q1935, q1936, q194⟩
theorem fk_X11_20 {ci : Nat} (h : ci ∈ [11]) : zFk "WhatIfSheet$Reader" 20 ci 7 := by
  simp only [List.mem_cons, List.not_mem_nil, or_false] at h
  rcases h with rfl
  · exact ⟨RX11, TX11, 10, rfl, by decide, q1365⟩
theorem fk_X11_27 {ci : Nat} (h : ci ∈ [11]) : zFk "WhatIfSheet$Reader" 27 ci 8 := by
  simp only [List.mem_cons, List.not_mem_nil, or_false] at h
  rcases h with rfl
  · exact ⟨RX11, TX11, 10, rfl, by decide, q1366⟩
def wp_X11_whole (l : Launch) (g : zG) (d : Nat) (mc ms : Nat) (h0 : Nat) (hp : zHp) (nx : Nat) (Post : Option Nat → zHp → Nat → Prop) (PostX : Nat → zHp → Nat → Prop) : Prop :=
  (∃ c_1 s_2 : Nat, 0 + c_1 ≤ mc ∧ 0 + s_2 ≤ ms ∧ zo hp (some h0) [11] fun a_64 ci_65 fs_66 => zMx l g yX11_next cX11_next 1 none d c_1 s_2 (.ref a_64 :: []) hp nx (zQv g fun hp_3 nx_4 =>
  (∃ c_5 s_6 : Nat, (0 + c_1) + c_5 ≤ mc ∧ (0 + s_2) + s_6 ≤ ms ∧ zo hp_3 (some h0) [11] fun a_58 ci_59 fs_60 => zMx l g yX11_even cX11_even 3 (some (.object "WhatIfSheet$Node")) d c_5 s_6 (.ref a_58 :: []) hp_3 nx_4 (zQq g fun r_9 hp_7 nx_8 =>
  (zgR hp_7 (some h0) [11] 3 fun r_13 =>
  (∃ P_32 : (Option Nat) → zHp → Nat → Nat → Nat → Prop, (∀ (r_14 : Option Nat) (hp_15 : zHp) (nx_16 : Nat) (kc_17 : Nat) (ks_18 : Nat), P_32 r_14 hp_15 nx_16 kc_17 ks_18 →
  (∃ c_19 s_20 : Nat, kc_17 + c_19 ≤ mc ∧ ks_18 + s_20 ≤ ms ∧ zo hp_15 (some h0) [11] fun a_27 ci_28 fs_29 => zMt l g yX11_fault cX11_fault 1 (some (.object "WhatIfSheet$Fault")) d c_19 s_20 (.ref a_27 :: []) hp_15 nx_16 (zQq g fun r_23 hp_21 nx_22 =>
  (zo hp_21 r_23 [12] fun a_24 ci_25 fs_26 => (kc_17 + c_19) ≤ mc ∧ (ks_18 + s_20) ≤ ms ∧ PostX a_24 hp_21 nx_22)))) ∧
  ((r_13 = none →
  (zgI hp_7 (some h0) [11] 4 fun x_33 =>
  ((x_33 = (-1 : Int32) →
  (zgI hp_7 (some h0) [11] 5 fun x_37 =>
  ((x_37 = (-1 : Int32) →
  (znw g mc ms hp_7 nx_8 ((0 + c_1) + c_5) ((0 + s_2) + s_6) 30 fun hp_38 =>
  ∀ nx_39 kc_40 ks_41 : Nat, nx_39 = (nx_8 + 1) → kc_40 = (((0 + c_1) + c_5) + 1) → ks_41 = (((0 + s_2) + s_6) + zNn 30) →
  (zgR hp_38 (some h0) [11] 7 fun r_45 =>
  (zgR hp_38 (some h0) [11] 8 fun r_49 =>
  (kc_40 ≤ mc ∧ ks_41 ≤ ms ∧ zMt l g yX30_init cX30_init 4 none d 0 0 (.ref nx_8 :: [va_rf r_9, va_rf r_45, va_rf r_49]) hp_38 nx_39 (zQv g fun hp_50 nx_51 =>
  (kc_40 ≤ mc ∧ ks_41 ≤ ms ∧ Post (some nx_8) hp_50 nx_51))))))) ∧
  (¬ x_37 = (-1 : Int32) →
  P_32 r_9 hp_7 nx_8 ((0 + c_1) + c_5) ((0 + s_2) + s_6))))) ∧
  (¬ x_33 = (-1 : Int32) →
  P_32 r_9 hp_7 nx_8 ((0 + c_1) + c_5) ((0 + s_2) + s_6))))) ∧
  (¬ r_13 = none →
  P_32 r_9 hp_7 nx_8 ((0 + c_1) + c_5) ((0 + s_2) + s_6)))))) "WhatIfSheet$Fault" (fun q_55 hp_56 nx_57 => ((0 + c_1) + c_5) ≤ mc ∧ ((0 + s_2) + s_6) ≤ ms ∧ PostX q_55 hp_56 nx_57))) "WhatIfSheet$Fault" (fun q_61 hp_62 nx_63 => (0 + c_1) ≤ mc ∧ (0 + s_2) ≤ ms ∧ PostX q_61 hp_62 nx_63))
set_option maxHeartbeats 40000000 in
theorem met_X11_whole {l : Launch} {g : zG} {d : Nat} {mc ms : Nat} {h0 : Nat} {hp : zHp} {nx : Nat} {Post : Option Nat → zHp → Nat → Prop} {PostX : Nat → zHp → Nat → Prop} (hw : wp_X11_whole l g d mc ms h0 hp nx Post PostX) : zMx l g yX11_whole cX11_whole 2 (some (.object "WhatIfSheet$Formula")) (d + 1) mc ms [.ref h0] hp nx (zQq g Post) "WhatIfSheet$Fault" PostX := by
  refine zy_start (by decide) (Nat.le_of_ble_eq_true rfl) ?_
  intro p e s m below meth c hk hr hin htb hH hz ls hl
  have hx := hk.1.1
  have hb := hk.1.2.1
  have hown := hk.1.2.2.2.1
  have hts := hk.1.2.2.2.2
  have hS : va_S (zAd g) s.heap s.heap [] := va_S.rf
  have hl : lv_has ls 2 [(0, va_rf (some h0))] := hl
  unfold wp_X11_whole at hw
  refine zr_aload_n (r := some h0) hx hb dX11_whole_0 rfl (lv_at hl 0 rfl) ?_
  obtain ⟨c_1, s_2, hcl, hsl, hw⟩ := hw
  obtain ⟨a_64, ci_65, fs_66, er, he, hc, hw⟩ := zo_e hw
  obtain rfl := List.mem_singleton.mp hc
  refine zy_callv (zy_runV (As := []) hk hH hz hS hl.1 er hw (cwV 0 hts (lw_V q1393 q1395 qs20 q170 q1396) rfl rfl rfl (by decide +kernel) (z_room (Nat.le_of_ble_eq_true rfl))) he rfl rfl rfl (Nat.le_of_ble_eq_true rfl) dX11_whole_1 ⟨hcl, hsl⟩) hS ?_ (fun hp_3 nx_4 hw H locs hH hz hS => ?_)
  · intro q_61 hp_62 nx_63 hw H locs hH hz hS hq
    obtain ⟨hkc, hks, hw⟩ := hw
    exact zy_out hk hH hz hS htb hq hw hkc hks
  · refine zr_aload_n (r := some h0) hx hb dX11_whole_4 rfl (lv_at hl 0 rfl) ?_
    obtain ⟨c_5, s_6, hcl, hsl, hw⟩ := hw
    obtain ⟨a_58, ci_59, fs_60, er, he, hc, hw⟩ := zo_e hw
    obtain rfl := List.mem_singleton.mp hc
    refine zy_callq (zy_runV (As := []) hk hH hz hS hl.1 er hw (cwV 0 hts (lw_V q1523 q1525 qs26 q170 q1526) rfl rfl rfl (by decide +kernel) (z_room (Nat.le_of_ble_eq_true rfl))) he rfl rfl rfl (Nat.le_of_ble_eq_true rfl) dX11_whole_5 ⟨hcl, hsl⟩) hS ?_ (fun r_9 hp_7 nx_8 hw H locs hH hz hS => ?_)
    · intro q_55 hp_56 nx_57 hw H locs hH hz hS hq
      obtain ⟨hkc, hks, hw⟩ := hw
      exact zy_out hk hH hz hS htb hq hw hkc hks
    · refine zr_astore_n (r := r_9) (i := 1) (lv' := [(1, va_rf r_9), (0, va_rf (some h0))]) hx hb dX11_whole_8 rfl hl (by decide) (by first | rfl | simp [List.filter_cons, z_cat, z_catI, z_catJ, z_catF, z_catD]) (fun ls hl => ?_)
      refine zr_aload_n (r := some h0) hx hb dX11_whole_9 rfl (lv_at hl 1 rfl) ?_
      obtain ⟨a_10, ci_11, fs_12, r_13, er, he, hc, hv, hw⟩ := zgR_e hw
      refine zw_get hk hH er he hv (fk_X11_52 hc) dX11_whole_10 ?_
      obtain ⟨P_32, hP_32, hw⟩ := hw
      have hJ_32 : ∀ (r_14 : Option Nat) (hp_15 : zHp) (nx_16 : Nat) (kc_17 : Nat) (ks_18 : Nat) (H : Heap) (locs : List Loc) (ls : Array Slot), P_32 r_14 hp_15 nx_16 kc_17 ks_18 → lv_has ls 2 [(0, va_rf (some h0)), (1, va_rf r_14)] → zHd g hp_15 H → H.size = nx_16 → va_S (zAd g) s.heap H locs → W p l e (zrm (d + 1) mc ms) s m ([.ref h0] : List Value).toArray below meth c H locs kc_17 ks_18 (vy_MQ below (zQq g Post) (zXC g "WhatIfSheet$Fault" PostX) ([.ref h0] : List Value).toArray s mc ms (zAd g)) (F0 m 32 ls []) := by
        intro r_14 hp_15 nx_16 kc_17 ks_18 H locs ls hw hl hH hz hS
        have hw := hP_32 r_14 hp_15 nx_16 kc_17 ks_18 hw
        refine zr_aload_n (r := some h0) hx hb dX11_whole_32 rfl (lv_at hl 0 rfl) ?_
        obtain ⟨c_19, s_20, hcl, hsl, hw⟩ := hw
        obtain ⟨a_27, ci_28, fs_29, er, he, hc, hw⟩ := zo_e hw
        obtain rfl := List.mem_singleton.mp hc
        refine zr_callq (zw_runV (As := []) hk hH hz hS hl.1 er hw (cwV 0 hts (lw_V q1446 q1448 qs25 q170 q1449) rfl rfl rfl (by decide +kernel) (z_room (Nat.le_of_ble_eq_true rfl))) he rfl rfl rfl (Nat.le_of_ble_eq_true rfl) dX11_whole_33 ⟨hcl, hsl⟩) hS (fun r_23 hp_21 nx_22 hw H locs hH hz hS => ?_)
        obtain ⟨a_24, ci_25, fs_26, er, he, hc, hkc, hks, hw⟩ := zo_e hw
        obtain rfl := List.mem_singleton.mp hc
        exact zy_athrow hk hH hz hS htb er he rfl hw hkc hks dX11_whole_36
      refine zr_ifnonnull (r := r_13) (tgt := 32) hx hb dX11_whole_13 (by decide) (fun hc => ?_) (fun hc => ?_)
      · have hw := hw.2 hc
        exact hJ_32 r_9 hp_7 nx_8 ((0 + c_1) + c_5) ((0 + s_2) + s_6) _ _ _ hw (lv_sub hl [1, 0] rfl) hH hz hS
      · have hw := hw.1 hc
        refine zr_aload_n (r := some h0) hx hb dX11_whole_16 rfl (lv_at hl 1 rfl) ?_
        obtain ⟨a_30, ci_31, fs_32, x_33, er, he, hc, hv, hw⟩ := zgI_e hw
        refine zw_get hk hH er he hv (fk_X11_56 hc) dX11_whole_17 ?_
        refine lv_iconst (v := (-1 : Int32)) hx hb dX11_whole_20 (by decide) ?_
        refine lv_icmp_ne (tgt := 32) hx hb dX11_whole_21 (by decide) (fun hc => ?_) (fun hc => ?_)
        · have hw := hw.2 hc
          exact hJ_32 r_9 hp_7 nx_8 ((0 + c_1) + c_5) ((0 + s_2) + s_6) _ _ _ hw (lv_sub hl [1, 0] rfl) hH hz hS
        · have hw := hw.1 hc
          refine zr_aload_n (r := some h0) hx hb dX11_whole_24 rfl (lv_at hl 1 rfl) ?_
          obtain ⟨a_34, ci_35, fs_36, x_37, er, he, hc, hv, hw⟩ := zgI_e hw
          refine zw_get hk hH er he hv (fk_X11_59 hc) dX11_whole_25 ?_
          refine lv_iconst (v := (-1 : Int32)) hx hb dX11_whole_28 (by decide) ?_
          refine lv_icmp_eq (tgt := 37) hx hb dX11_whole_29 (by decide) (fun hc => ?_) (fun hc => ?_)
          · have hw := hw.1 hc
            obtain ⟨hcl, hsl, hw⟩ := hw
            refine zx_new hk hH hz hS (ci := 30) no_X11_263 hcl hsl dX11_whole_37 (fun H hH hz hS hlt hnb => ?_)
            have hw := hw hlt hnb
            generalize va_up hp_7 nx_8 _ = hp_38 at hH hw
            obtain ⟨kc_40, ekc⟩ : ∃ k, k = (((0 + c_1) + c_5) + 1) := ⟨_, rfl⟩
            obtain ⟨ks_41, eks⟩ : ∃ k, k = (((0 + s_2) + s_6) + zNn 30) := ⟨_, rfl⟩
            have hw := hw _ _ _ rfl ekc eks
            refine W.widen (Nat.le_of_eq ekc.symm) (Nat.le_of_eq eks.symm) ?_
            clear ekc eks
            generalize (nx_8 + 1) = nx_39 at hz hw
            refine lv_dup hx hb dX11_whole_40 (z_cat _) ?_
            refine zr_aload_n (r := r_9) hx hb dX11_whole_41 rfl (lv_at hl 0 rfl) ?_
            refine zr_aload_n (r := some h0) hx hb dX11_whole_42 rfl (lv_at hl 1 rfl) ?_
            obtain ⟨a_42, ci_43, fs_44, r_45, er, he, hc, hv, hw⟩ := zgR_e hw
            refine zw_get hk hH er he hv (fk_X11_20 hc) dX11_whole_43 ?_
            refine zr_aload_n (r := some h0) hx hb dX11_whole_46 rfl (lv_at hl 1 rfl) ?_
            obtain ⟨a_46, ci_47, fs_48, r_49, er, he, hc, hv, hw⟩ := zgR_e hw
            refine zw_get hk hH er he hv (fk_X11_27 hc) dX11_whole_47 ?_
            obtain ⟨hcl, hsl, hw⟩ := hw
            refine zr_callv (zw_runI (As := [va_rf r_9, va_rf r_45, va_rf r_49]) (r := some nx_8) hk hH hz hS hl.1 rfl hw (cwI 3 hts (lw_meth q1939) rfl rfl rfl (hts _ q194) (hts _ q1937) (hts _ q1938) rfl (by decide +kernel) (z_room (Nat.le_of_ble_eq_true rfl))) rfl rfl (by simp only [List.map_cons, List.map_nil, z_cat]; exact Nat.le_of_ble_eq_true rfl) dX11_whole_50 ⟨hcl, hsl⟩) hS (fun hp_50 nx_51 hw H locs hH hz hS => ?_)
            obtain ⟨hkc, hks, hw⟩ := hw
            exact vy_ret (zr_aret (r := some nx_8) hk hr (Or.inl ⟨_, rfl⟩) hH hz hS hw hkc hks dX11_whole_53)
          · have hw := hw.2 hc
            exact hJ_32 r_9 hp_7 nx_8 ((0 + c_1) + c_5) ((0 + s_2) + s_6) _ _ _ hw (lv_sub hl [1, 0] rfl) hH hz hS
theorem fk_X11_38 {ci : Nat} (h : ci ∈ [11]) : zFk "WhatIfSheet$Reader" 38 ci 0 := by
  simp only [List.mem_cons, List.not_mem_nil, or_false] at h
  rcases h with rfl
  · exact ⟨RX11, TX11, 10, rfl, by decide, q1358⟩
theorem fp_X11_38 {ci : Nat} (h : ci ∈ [11]) : zFp "WhatIfSheet$Reader" 38 ci 0 .int := by
  simp only [List.mem_cons, List.not_mem_nil, or_false] at h
  rcases h with rfl
  · exact ⟨RX11, TX11, 10, rfl, by decide, q1358, rfl, by decide +kernel⟩
theorem fp_X11_33 {ci : Nat} (h : ci ∈ [11]) : zFp "WhatIfSheet$Reader" 33 ci 1 .int := by
  simp only [List.mem_cons, List.not_mem_nil, or_false] at h
  rcases h with rfl
  · exact ⟨RX11, TX11, 10, rfl, by decide, q1359, rfl, by decide +kernel⟩
theorem fp_X11_52 {ci : Nat} (h : ci ∈ [11]) : zFp "WhatIfSheet$Reader" 52 ci 3 (.object "java/lang/String") := by
  simp only [List.mem_cons, List.not_mem_nil, or_false] at h
  rcases h with rfl
  · exact ⟨RX11, TX11, 10, rfl, by decide, q1361, rfl, by decide +kernel⟩
theorem fp_X11_56 {ci : Nat} (h : ci ∈ [11]) : zFp "WhatIfSheet$Reader" 56 ci 4 .int := by
  simp only [List.mem_cons, List.not_mem_nil, or_false] at h
  rcases h with rfl
  · exact ⟨RX11, TX11, 10, rfl, by decide, q1362, rfl, by decide +kernel⟩
theorem fp_X11_59 {ci : Nat} (h : ci ∈ [11]) : zFp "WhatIfSheet$Reader" 59 ci 5 .int := by
  simp only [List.mem_cons, List.not_mem_nil, or_false] at h
  rcases h with rfl
  · exact ⟨RX11, TX11, 10, rfl, by decide, q1363, rfl, by decide +kernel⟩
theorem fk_X11_3 {ci : Nat} (h : ci ∈ [11]) : zFk "WhatIfSheet$Reader" 3 ci 9 := by
  simp only [List.mem_cons, List.not_mem_nil, or_false] at h
  rcases h with rfl
  · exact ⟨RX11, TX11, 10, rfl, by decide, q1367⟩
theorem fn_X11_41 {ci : Nat} (h : ci ∈ [0]) : zFkN "WhatIfSheet$Reader" 41 ci 20 := by
  simp only [List.mem_cons, List.not_mem_nil, or_false] at h
  rcases h with rfl
  · exact ⟨RX0, TX0, 30, "WhatIfSheet", rfl, by decide, q1231⟩
def wp_X11_next (l : Launch) (g : zG) (d : Nat) (mc ms : Nat) (h0 : Nat) (hp : zHp) (nx : Nat) (Post : zHp → Nat → Prop) (PostX : Nat → zHp → Nat → Prop) : Prop :=
  (∃ I_0 : Nat → zHp → Nat → Nat → Nat → Prop, (∃ n_141, I_0 n_141 hp nx 0 0) ∧ ∀ (n_5 : Nat) (hp_1 : zHp) (nx_2 : Nat) (kc_3 : Nat) (ks_4 : Nat), I_0 n_5 hp_1 nx_2 kc_3 ks_4 →
  (kc_3 ≤ mc ∧ ks_4 ≤ ms ∧ zo hp_1 (some h0) [11] fun a_138 ci_139 fs_140 => zMt l g yX11_here cX11_here 1 (some .int) d 0 0 (.ref a_138 :: []) hp_1 nx_2 (zQi g fun x_8 hp_6 nx_7 =>
  (∃ P_18 : zHp → Nat → Nat → Nat → Prop, (∀ (hp_9 : zHp) (nx_10 : Nat) (kc_11 : Nat) (ks_12 : Nat), P_18 hp_9 nx_10 kc_11 ks_12 →
  (zgI hp_9 (some h0) [11] 0 fun x_16 =>
  (zpt g hp_9 (some h0) [11] 0 (.int (x_16 + (1 : Int32))) fun hp_20 =>
  (∃ k_21, k_21 < n_5 ∧ I_0 k_21 hp_20 nx_10 kc_11 ks_12)))) ∧
  ((x_8 = (32 : Int32) →
  P_18 hp_6 nx_7 kc_3 ks_4) ∧
  (¬ x_8 = (32 : Int32) →
  (kc_3 ≤ mc ∧ ks_4 ≤ ms ∧ zo hp_6 (some h0) [11] fun a_135 ci_136 fs_137 => zMt l g yX11_here cX11_here 1 (some .int) d 0 0 (.ref a_135 :: []) hp_6 nx_7 (zQi g fun x_24 hp_22 nx_23 =>
  ((x_24 = (10 : Int32) →
  P_18 hp_22 nx_23 kc_3 ks_4) ∧
  (¬ x_24 = (10 : Int32) →
  (zgI hp_22 (some h0) [11] 0 fun x_28 =>
  (zpt g hp_22 (some h0) [11] 1 (.int x_28) fun hp_32 =>
  (zpt g hp_32 (some h0) [11] 3 (va_rf none) fun hp_36 =>
  (zpt g hp_36 (some h0) [11] 4 (.int (-1 : Int32)) fun hp_40 =>
  (zpt g hp_40 (some h0) [11] 5 (.int (-1 : Int32)) fun hp_44 =>
  (kc_3 ≤ mc ∧ ks_4 ≤ ms ∧ zo hp_44 (some h0) [11] fun a_132 ci_133 fs_134 => zMt l g yX11_here cX11_here 1 (some .int) d 0 0 (.ref a_132 :: []) hp_44 nx_23 (zQi g fun x_47 hp_45 nx_46 =>
  (kc_3 ≤ mc ∧ ks_4 ≤ ms ∧ zMt l g yX0_in cX0_in 6 (some .boolean) d 0 0 [.long x_47.toInt64, .long (97 : Int64), .long (122 : Int64)] hp_45 nx_46 (zQi g fun x_50 hp_48 nx_49 =>
  (∃ P_151 : zHp → Nat → Nat → Nat → Prop, (∀ (hp_51 : zHp) (nx_52 : Nat) (kc_53 : Nat) (ks_54 : Nat), P_151 hp_51 nx_52 kc_53 ks_54 →
  (kc_53 ≤ mc ∧ ks_54 ≤ ms ∧ Post hp_51 nx_52)) ∧
  ((x_50 = 0 →
  (kc_3 ≤ mc ∧ ks_4 ≤ ms ∧ zo hp_48 (some h0) [11] fun a_122 ci_123 fs_124 => zMt l g yX11_here cX11_here 1 (some .int) d 0 0 (.ref a_122 :: []) hp_48 nx_49 (zQi g fun x_57 hp_55 nx_56 =>
  (kc_3 ≤ mc ∧ ks_4 ≤ ms ∧ zMt l g yX0_in cX0_in 6 (some .boolean) d 0 0 [.long x_57.toInt64, .long (48 : Int64), .long (57 : Int64)] hp_55 nx_56 (zQi g fun x_60 hp_58 nx_59 =>
  ((x_60 = 0 →
  (zgI hp_58 (some h0) [11] 0 fun x_64 =>
  (zgR hp_58 (some h0) [11] 9 fun r_68 =>
  (zgI hp_58 r_68 [0] 20 fun x_72 =>
  ((x_72 ≤ x_64 →
  P_151 hp_58 nx_59 kc_3 ks_4) ∧
  (¬ x_72 ≤ x_64 →
  (kc_3 ≤ mc ∧ ks_4 ≤ ms ∧ zo hp_58 (some h0) [11] fun a_109 ci_110 fs_111 => zMt l g yX11_here cX11_here 1 (some .int) d 0 0 (.ref a_109 :: []) hp_58 nx_59 (zQi g fun x_75 hp_73 nx_74 =>
  (zpt g hp_73 (some h0) [11] 5 (.int x_75) fun hp_79 =>
  (zgI hp_79 (some h0) [11] 5 fun x_83 =>
  (kc_3 ≤ mc ∧ ks_4 ≤ ms ∧ zo hp_79 (some (g.2.2.2.2 0)) [40] fun a_106 ci_107 fs_108 => zMt l g yJ7_indexOf cJ7_indexOf 2 (some .int) d 0 0 (.ref a_106 :: [.int x_83]) hp_79 nx_74 (zQi g fun x_86 hp_84 nx_85 =>
  ((0 ≤ x_86 →
  (zgI hp_84 (some h0) [11] 0 fun x_90 =>
  (zpt g hp_84 (some h0) [11] 0 (.int (x_90 + (1 : Int32))) fun hp_94 =>
  P_151 hp_94 nx_85 kc_3 ks_4))) ∧
  (¬ 0 ≤ x_86 →
  (∃ c_95 s_96 : Nat, kc_3 + c_95 ≤ mc ∧ ks_4 + s_96 ≤ ms ∧ zo hp_84 (some h0) [11] fun a_103 ci_104 fs_105 => zMt l g yX11_fault cX11_fault 1 (some (.object "WhatIfSheet$Fault")) d c_95 s_96 (.ref a_103 :: []) hp_84 nx_85 (zQq g fun r_99 hp_97 nx_98 =>
  (zo hp_97 r_99 [12] fun a_100 ci_101 fs_102 => (kc_3 + c_95) ≤ mc ∧ (ks_4 + s_96) ≤ ms ∧ PostX a_100 hp_97 nx_98))))))))))))))))) ∧
  (¬ x_60 = 0 →
  (∃ c_112 s_113 : Nat, kc_3 + c_112 ≤ mc ∧ ks_4 + s_113 ≤ ms ∧ zo hp_58 (some h0) [11] fun a_119 ci_120 fs_121 => zMx l g yX11_number cX11_number 1 none d c_112 s_113 (.ref a_119 :: []) hp_58 nx_59 (zQv g fun hp_114 nx_115 =>
  P_151 hp_114 nx_115 (kc_3 + c_112) (ks_4 + s_113)) "WhatIfSheet$Fault" (fun q_116 hp_117 nx_118 => (kc_3 + c_112) ≤ mc ∧ (ks_4 + s_113) ≤ ms ∧ PostX q_116 hp_117 nx_118))))))))) ∧
  (¬ x_50 = 0 →
  (∃ c_125 s_126 : Nat, kc_3 + c_125 ≤ mc ∧ ks_4 + s_126 ≤ ms ∧ zo hp_48 (some h0) [11] fun a_129 ci_130 fs_131 => zMt l g yX11_word cX11_word 2 none d c_125 s_126 (.ref a_129 :: []) hp_48 nx_49 (zQv g fun hp_127 nx_128 =>
  P_151 hp_127 nx_128 (kc_3 + c_125) (ks_4 + s_126)))))))))))))))))))))))))
set_option maxHeartbeats 40000000 in
theorem met_X11_next {l : Launch} {g : zG} {d : Nat} {mc ms : Nat} {h0 : Nat} {hp : zHp} {nx : Nat} {Post : zHp → Nat → Prop} {PostX : Nat → zHp → Nat → Prop} (hw : wp_X11_next l g d mc ms h0 hp nx Post PostX) : zMx l g yX11_next cX11_next 1 none (d + 1) mc ms [.ref h0] hp nx (zQv g Post) "WhatIfSheet$Fault" PostX := by
  refine zy_start (by decide) (Nat.le_of_ble_eq_true rfl) ?_
  intro p e s m below meth c hk hr hin htb hH hz ls hl
  have hx := hk.1.1
  have hb := hk.1.2.1
  have hown := hk.1.2.2.2.1
  have hts := hk.1.2.2.2.2
  have hS : va_S (zAd g) s.heap s.heap [] := va_S.rf
  have hl : lv_has ls 1 [(0, va_rf (some h0))] := hl
  unfold wp_X11_next at hw
  obtain ⟨I_0, ⟨n_141, hI⟩, hB_0⟩ := hw
  have hL_0 : ∀ (n_5 : Nat) (hp_1 : zHp) (nx_2 : Nat) (kc_3 : Nat) (ks_4 : Nat) (H : Heap) (locs : List Loc) (ls : Array Slot), I_0 n_5 hp_1 nx_2 kc_3 ks_4 → lv_has ls 1 [(0, va_rf (some h0))] → zHd g hp_1 H → H.size = nx_2 → va_S (zAd g) s.heap H locs → W p l e (zrm (d + 1) mc ms) s m ([.ref h0] : List Value).toArray below meth c H locs kc_3 ks_4 (vy_MQ below (zQv g Post) (zXC g "WhatIfSheet$Fault" PostX) ([.ref h0] : List Value).toArray s mc ms (zAd g)) (F0 m 0 ls []) := by
    intro n_5
    induction n_5 using Nat.strongRecOn with
    | _ n_5 ih_0 =>
      intro hp_1 nx_2 kc_3 ks_4 H locs ls hw hl hH hz hS
      have hw := hB_0 n_5 hp_1 nx_2 kc_3 ks_4 hw
      refine zr_aload_n (r := some h0) hx hb dX11_next_0 rfl (lv_at hl 0 rfl) ?_
      obtain ⟨hcl, hsl, hw⟩ := hw
      obtain ⟨a_138, ci_139, fs_140, er, he, hc, hw⟩ := zo_e hw
      obtain rfl := List.mem_singleton.mp hc
      refine zr_calli (zw_runV (As := []) hk hH hz hS hl.1 er hw (cwV 0 hts (lw_V q1397 q1399 qs21 q170 q1400) rfl rfl rfl (by decide +kernel) (z_room (Nat.le_of_ble_eq_true rfl))) he rfl rfl rfl (Nat.le_of_ble_eq_true rfl) dX11_next_1 ⟨hcl, hsl⟩) hS (fun x_8 hp_6 nx_7 hw H locs hH hz hS => ?_)
      refine lv_bipush (v := (32 : Int32)) hx hb dX11_next_4 (by decide) ?_
      obtain ⟨P_18, hP_18, hw⟩ := hw
      have hJ_18 : ∀ (hp_9 : zHp) (nx_10 : Nat) (kc_11 : Nat) (ks_12 : Nat) (H : Heap) (locs : List Loc) (ls : Array Slot), P_18 hp_9 nx_10 kc_11 ks_12 → lv_has ls 1 [(0, va_rf (some h0))] → zHd g hp_9 H → H.size = nx_10 → va_S (zAd g) s.heap H locs → W p l e (zrm (d + 1) mc ms) s m ([.ref h0] : List Value).toArray below meth c H locs kc_11 ks_12 (vy_MQ below (zQv g Post) (zXC g "WhatIfSheet$Fault" PostX) ([.ref h0] : List Value).toArray s mc ms (zAd g)) (F0 m 18 ls []) := by
        intro hp_9 nx_10 kc_11 ks_12 H locs ls hw hl hH hz hS
        have hw := hP_18 hp_9 nx_10 kc_11 ks_12 hw
        refine zr_aload_n (r := some h0) hx hb dX11_next_18 rfl (lv_at hl 0 rfl) ?_
        refine lv_dup hx hb dX11_next_19 (z_cat _) ?_
        obtain ⟨a_13, ci_14, fs_15, x_16, er, he, hc, hv, hw⟩ := zgI_e hw
        refine zw_get hk hH er he hv (fk_X11_38 hc) dX11_next_20 ?_
        refine lv_iconst (v := (1 : Int32)) hx hb dX11_next_23 (by decide) ?_
        refine lv_iadd hx hb dX11_next_24 ?_
        obtain ⟨a_17, ci_18, fs_19, hp_20, er, he, hc, hA, hkl, eh, hw⟩ := zpt_e hw
        refine zw_put hk hH hz hS er he hA hkl eh (fp_X11_38 hc) rfl rfl dX11_next_25 (fun H locs hH hz hS => ?_)
        refine lv_goto (tgt := 0) hx hb dX11_next_28 (by decide) ?_
        obtain ⟨k_21, hlt, hw⟩ := hw
        exact ih_0 k_21 hlt hp_20 nx_10 kc_11 ks_12 _ _ _ hw hl hH hz hS
      refine lv_icmp_eq (tgt := 18) hx hb dX11_next_6 (by decide) (fun hc => ?_) (fun hc => ?_)
      · have hw := hw.1 hc
        exact hJ_18 hp_6 nx_7 kc_3 ks_4 _ _ _ hw hl hH hz hS
      · have hw := hw.2 hc
        refine zr_aload_n (r := some h0) hx hb dX11_next_9 rfl (lv_at hl 0 rfl) ?_
        obtain ⟨hcl, hsl, hw⟩ := hw
        obtain ⟨a_135, ci_136, fs_137, er, he, hc, hw⟩ := zo_e hw
        obtain rfl := List.mem_singleton.mp hc
        refine zr_calli (zw_runV (As := []) hk hH hz hS hl.1 er hw (cwV 0 hts (lw_V q1397 q1399 qs21 q170 q1400) rfl rfl rfl (by decide +kernel) (z_room (Nat.le_of_ble_eq_true rfl))) he rfl rfl rfl (Nat.le_of_ble_eq_true rfl) dX11_next_10 ⟨hcl, hsl⟩) hS (fun x_24 hp_22 nx_23 hw H locs hH hz hS => ?_)
        refine lv_bipush (v := (10 : Int32)) hx hb dX11_next_13 (by decide) ?_
        refine lv_icmp_ne (tgt := 31) hx hb dX11_next_15 (by decide) (fun hc => ?_) (fun hc => ?_)
        · have hw := hw.2 hc
          refine zr_aload_n (r := some h0) hx hb dX11_next_31 rfl (lv_at hl 0 rfl) ?_
          refine zr_aload_n (r := some h0) hx hb dX11_next_32 rfl (lv_at hl 0 rfl) ?_
          obtain ⟨a_25, ci_26, fs_27, x_28, er, he, hc, hv, hw⟩ := zgI_e hw
          refine zw_get hk hH er he hv (fk_X11_38 hc) dX11_next_33 ?_
          obtain ⟨a_29, ci_30, fs_31, hp_32, er, he, hc, hA, hkl, eh, hw⟩ := zpt_e hw
          refine zw_put hk hH hz hS er he hA hkl eh (fp_X11_33 hc) rfl rfl dX11_next_36 (fun H locs hH hz hS => ?_)
          refine zr_aload_n (r := some h0) hx hb dX11_next_39 rfl (lv_at hl 0 rfl) ?_
          refine zx_null hx hb dX11_next_40 ?_
          obtain ⟨a_33, ci_34, fs_35, hp_36, er, he, hc, hA, hkl, eh, hw⟩ := zpt_e hw
          refine zw_put hk hH hz hS er he hA hkl eh (fp_X11_52 hc) (z_narR _ _) (z_fitR _ _) dX11_next_41 (fun H locs hH hz hS => ?_)
          refine zr_aload_n (r := some h0) hx hb dX11_next_44 rfl (lv_at hl 0 rfl) ?_
          refine lv_iconst (v := (-1 : Int32)) hx hb dX11_next_45 (by decide) ?_
          obtain ⟨a_37, ci_38, fs_39, hp_40, er, he, hc, hA, hkl, eh, hw⟩ := zpt_e hw
          refine zw_put hk hH hz hS er he hA hkl eh (fp_X11_56 hc) rfl rfl dX11_next_46 (fun H locs hH hz hS => ?_)
          refine zr_aload_n (r := some h0) hx hb dX11_next_49 rfl (lv_at hl 0 rfl) ?_
          refine lv_iconst (v := (-1 : Int32)) hx hb dX11_next_50 (by decide) ?_
          obtain ⟨a_41, ci_42, fs_43, hp_44, er, he, hc, hA, hkl, eh, hw⟩ := zpt_e hw
          refine zw_put hk hH hz hS er he hA hkl eh (fp_X11_59 hc) rfl rfl dX11_next_51 (fun H locs hH hz hS => ?_)
          refine zr_aload_n (r := some h0) hx hb dX11_next_54 rfl (lv_at hl 0 rfl) ?_
          obtain ⟨hcl, hsl, hw⟩ := hw
          obtain ⟨a_132, ci_133, fs_134, er, he, hc, hw⟩ := zo_e hw
          obtain rfl := List.mem_singleton.mp hc
          refine zr_calli (zw_runV (As := []) hk hH hz hS hl.1 er hw (cwV 0 hts (lw_V q1397 q1399 qs21 q170 q1400) rfl rfl rfl (by decide +kernel) (z_room (Nat.le_of_ble_eq_true rfl))) he rfl rfl rfl (Nat.le_of_ble_eq_true rfl) dX11_next_55 ⟨hcl, hsl⟩) hS (fun x_47 hp_45 nx_46 hw H locs hH hz hS => ?_)
          refine lv_i2l hx hb dX11_next_58 rfl ?_
          refine lv_ldc2 hx hb hown (hts _ q1401) dX11_next_59 ?_
          refine lv_ldc2 hx hb hown (hts _ q1402) dX11_next_62 ?_
          obtain ⟨hcl, hsl, hw⟩ := hw
          refine zr_calli (zr_runSN (As := [.long x_47.toInt64, .long (97 : Int64), .long (122 : Int64)]) hk hH hz hS hl.1 hw ⟨va_cnB 3 hts (lw_meth q1310) rfl rfl rfl (hk.2.2.1.1 _ q1403 rfl) (hts _ q131) (by decide +kernel) (z_room (Nat.le_of_ble_eq_true rfl)), hts _ q1309, trivial⟩ rfl rfl (Nat.le_of_ble_eq_true rfl) dX11_next_65 ⟨hcl, hsl⟩) hS (fun x_50 hp_48 nx_49 hw H locs hH hz hS => ?_)
          obtain ⟨P_151, hP_151, hw⟩ := hw
          have hJ_151 : ∀ (hp_51 : zHp) (nx_52 : Nat) (kc_53 : Nat) (ks_54 : Nat) (H : Heap) (locs : List Loc) (ls : Array Slot), P_151 hp_51 nx_52 kc_53 ks_54 → lv_has ls 1 [(0, va_rf (some h0))] → zHd g hp_51 H → H.size = nx_52 → va_S (zAd g) s.heap H locs → W p l e (zrm (d + 1) mc ms) s m ([.ref h0] : List Value).toArray below meth c H locs kc_53 ks_54 (vy_MQ below (zQv g Post) (zXC g "WhatIfSheet$Fault" PostX) ([.ref h0] : List Value).toArray s mc ms (zAd g)) (F0 m 151 ls []) := by
            intro hp_51 nx_52 kc_53 ks_54 H locs ls hw hl hH hz hS
            have hw := hP_151 hp_51 nx_52 kc_53 ks_54 hw
            obtain ⟨hkc, hks, hw⟩ := hw
            exact vy_ret (zr_vret hk hr hH hz hS hw hkc hks dX11_next_151)
          refine lv_if_eq (tgt := 78) hx hb dX11_next_68 (by decide) (fun hc => ?_) (fun hc => ?_)
          · have hw := hw.1 hc
            refine zr_aload_n (r := some h0) hx hb dX11_next_78 rfl (lv_at hl 0 rfl) ?_
            obtain ⟨hcl, hsl, hw⟩ := hw
            obtain ⟨a_122, ci_123, fs_124, er, he, hc, hw⟩ := zo_e hw
            obtain rfl := List.mem_singleton.mp hc
            refine zr_calli (zw_runV (As := []) hk hH hz hS hl.1 er hw (cwV 0 hts (lw_V q1397 q1399 qs21 q170 q1400) rfl rfl rfl (by decide +kernel) (z_room (Nat.le_of_ble_eq_true rfl))) he rfl rfl rfl (Nat.le_of_ble_eq_true rfl) dX11_next_79 ⟨hcl, hsl⟩) hS (fun x_57 hp_55 nx_56 hw H locs hH hz hS => ?_)
            refine lv_i2l hx hb dX11_next_82 rfl ?_
            refine lv_ldc2 hx hb hown (hts _ q1436) dX11_next_83 ?_
            refine lv_ldc2 hx hb hown (hts _ q1437) dX11_next_86 ?_
            obtain ⟨hcl, hsl, hw⟩ := hw
            refine zr_calli (zr_runSN (As := [.long x_57.toInt64, .long (48 : Int64), .long (57 : Int64)]) hk hH hz hS hl.1 hw ⟨va_cnB 3 hts (lw_meth q1310) rfl rfl rfl (hk.2.2.1.1 _ q1403 rfl) (hts _ q131) (by decide +kernel) (z_room (Nat.le_of_ble_eq_true rfl)), hts _ q1309, trivial⟩ rfl rfl (Nat.le_of_ble_eq_true rfl) dX11_next_89 ⟨hcl, hsl⟩) hS (fun x_60 hp_58 nx_59 hw H locs hH hz hS => ?_)
            refine lv_if_eq (tgt := 102) hx hb dX11_next_92 (by decide) (fun hc => ?_) (fun hc => ?_)
            · have hw := hw.1 hc
              refine zr_aload_n (r := some h0) hx hb dX11_next_102 rfl (lv_at hl 0 rfl) ?_
              obtain ⟨a_61, ci_62, fs_63, x_64, er, he, hc, hv, hw⟩ := zgI_e hw
              refine zw_get hk hH er he hv (fk_X11_38 hc) dX11_next_103 ?_
              refine zr_aload_n (r := some h0) hx hb dX11_next_106 rfl (lv_at hl 0 rfl) ?_
              obtain ⟨a_65, ci_66, fs_67, r_68, er, he, hc, hv, hw⟩ := zgR_e hw
              refine zw_get hk hH er he hv (fk_X11_3 hc) dX11_next_107 ?_
              obtain ⟨a_69, ci_70, fs_71, x_72, er, he, hc, hv, hw⟩ := zgI_e hw
              refine zw_getN hk hH er he hv (fn_X11_41 hc) dX11_next_110 ?_
              refine lv_icmp_ge (tgt := 151) hx hb dX11_next_113 (by decide) (fun hc => ?_) (fun hc => ?_)
              · have hw := hw.1 hc
                exact hJ_151 hp_58 nx_59 kc_3 ks_4 _ _ _ hw hl hH hz hS
              · have hw := hw.2 hc
                refine zr_aload_n (r := some h0) hx hb dX11_next_116 rfl (lv_at hl 0 rfl) ?_
                refine zr_aload_n (r := some h0) hx hb dX11_next_117 rfl (lv_at hl 0 rfl) ?_
                obtain ⟨hcl, hsl, hw⟩ := hw
                obtain ⟨a_109, ci_110, fs_111, er, he, hc, hw⟩ := zo_e hw
                obtain rfl := List.mem_singleton.mp hc
                refine zr_calli (zw_runV (As := []) hk hH hz hS hl.1 er hw (cwV 0 hts (lw_V q1397 q1399 qs21 q170 q1400) rfl rfl rfl (by decide +kernel) (z_room (Nat.le_of_ble_eq_true rfl))) he rfl rfl rfl (by simp only [List.map_cons, List.map_nil, z_cat]; exact Nat.le_of_ble_eq_true rfl) dX11_next_118 ⟨hcl, hsl⟩) hS (fun x_75 hp_73 nx_74 hw H locs hH hz hS => ?_)
                obtain ⟨a_76, ci_77, fs_78, hp_79, er, he, hc, hA, hkl, eh, hw⟩ := zpt_e hw
                refine zw_put hk hH hz hS er he hA hkl eh (fp_X11_59 hc) rfl rfl dX11_next_121 (fun H locs hH hz hS => ?_)
                refine zw_ldcS hk 0 rfl dX11_next_124 ?_
                refine zr_aload_n (r := some h0) hx hb dX11_next_126 rfl (lv_at hl 0 rfl) ?_
                obtain ⟨a_80, ci_81, fs_82, x_83, er, he, hc, hv, hw⟩ := zgI_e hw
                refine zw_get hk hH er he hv (fk_X11_59 hc) dX11_next_127 ?_
                obtain ⟨hcl, hsl, hw⟩ := hw
                obtain ⟨a_106, ci_107, fs_108, er, he, hc, hw⟩ := zo_e hw
                obtain rfl := List.mem_singleton.mp hc
                refine zr_calli (zw_runV (As := [.int x_83]) hk hH hz hS hl.1 er hw (cwV 1 hts (lw_V q1473 q1474 q1475 q140 q1476) rfl rfl rfl (by decide +kernel) (z_room (Nat.le_of_ble_eq_true rfl))) he rfl rfl rfl (Nat.le_of_ble_eq_true rfl) dX11_next_130 ⟨hcl, hsl⟩) hS (fun x_86 hp_84 nx_85 hw H locs hH hz hS => ?_)
                refine lv_if_ge (tgt := 141) hx hb dX11_next_133 (by decide) (fun hc => ?_) (fun hc => ?_)
                · have hw := hw.1 hc
                  refine zr_aload_n (r := some h0) hx hb dX11_next_141 rfl (lv_at hl 0 rfl) ?_
                  refine lv_dup hx hb dX11_next_142 (z_cat _) ?_
                  obtain ⟨a_87, ci_88, fs_89, x_90, er, he, hc, hv, hw⟩ := zgI_e hw
                  refine zw_get hk hH er he hv (fk_X11_38 hc) dX11_next_143 ?_
                  refine lv_iconst (v := (1 : Int32)) hx hb dX11_next_146 (by decide) ?_
                  refine lv_iadd hx hb dX11_next_147 ?_
                  obtain ⟨a_91, ci_92, fs_93, hp_94, er, he, hc, hA, hkl, eh, hw⟩ := zpt_e hw
                  refine zw_put hk hH hz hS er he hA hkl eh (fp_X11_38 hc) rfl rfl dX11_next_148 (fun H locs hH hz hS => ?_)
                  exact hJ_151 hp_94 nx_85 kc_3 ks_4 _ _ _ hw hl hH hz hS
                · have hw := hw.2 hc
                  refine zr_aload_n (r := some h0) hx hb dX11_next_136 rfl (lv_at hl 0 rfl) ?_
                  obtain ⟨c_95, s_96, hcl, hsl, hw⟩ := hw
                  obtain ⟨a_103, ci_104, fs_105, er, he, hc, hw⟩ := zo_e hw
                  obtain rfl := List.mem_singleton.mp hc
                  refine zr_callq (zw_runV (As := []) hk hH hz hS hl.1 er hw (cwV 0 hts (lw_V q1446 q1448 qs25 q170 q1449) rfl rfl rfl (by decide +kernel) (z_room (Nat.le_of_ble_eq_true rfl))) he rfl rfl rfl (Nat.le_of_ble_eq_true rfl) dX11_next_137 ⟨hcl, hsl⟩) hS (fun r_99 hp_97 nx_98 hw H locs hH hz hS => ?_)
                  obtain ⟨a_100, ci_101, fs_102, er, he, hc, hkc, hks, hw⟩ := zo_e hw
                  obtain rfl := List.mem_singleton.mp hc
                  exact zy_athrow hk hH hz hS htb er he rfl hw hkc hks dX11_next_140
            · have hw := hw.2 hc
              refine zr_aload_n (r := some h0) hx hb dX11_next_95 rfl (lv_at hl 0 rfl) ?_
              obtain ⟨c_112, s_113, hcl, hsl, hw⟩ := hw
              obtain ⟨a_119, ci_120, fs_121, er, he, hc, hw⟩ := zo_e hw
              obtain rfl := List.mem_singleton.mp hc
              refine zy_callv (zy_runV (As := []) hk hH hz hS hl.1 er hw (cwV 0 hts (lw_V q1438 q1440 qs23 q170 q1441) rfl rfl rfl (by decide +kernel) (z_room (Nat.le_of_ble_eq_true rfl))) he rfl rfl rfl (Nat.le_of_ble_eq_true rfl) dX11_next_96 ⟨hcl, hsl⟩) hS ?_ (fun hp_114 nx_115 hw H locs hH hz hS => ?_)
              · intro q_116 hp_117 nx_118 hw H locs hH hz hS hq
                obtain ⟨hkc, hks, hw⟩ := hw
                exact zy_out hk hH hz hS htb hq hw hkc hks
              · refine lv_goto (tgt := 151) hx hb dX11_next_99 (by decide) ?_
                exact hJ_151 hp_114 nx_115 (kc_3 + c_112) (ks_4 + s_113) _ _ _ hw hl hH hz hS
          · have hw := hw.2 hc
            refine zr_aload_n (r := some h0) hx hb dX11_next_71 rfl (lv_at hl 0 rfl) ?_
            obtain ⟨c_125, s_126, hcl, hsl, hw⟩ := hw
            obtain ⟨a_129, ci_130, fs_131, er, he, hc, hw⟩ := zo_e hw
            obtain rfl := List.mem_singleton.mp hc
            refine zr_callv (zw_runV (As := []) hk hH hz hS hl.1 er hw (cwV 0 hts (lw_V q1404 q1406 qs22 q170 q1407) rfl rfl rfl (by decide +kernel) (z_room (Nat.le_of_ble_eq_true rfl))) he rfl rfl rfl (Nat.le_of_ble_eq_true rfl) dX11_next_72 ⟨hcl, hsl⟩) hS (fun hp_127 nx_128 hw H locs hH hz hS => ?_)
            refine lv_goto (tgt := 151) hx hb dX11_next_75 (by decide) ?_
            exact hJ_151 hp_127 nx_128 (kc_3 + c_125) (ks_4 + s_126) _ _ _ hw hl hH hz hS
        · have hw := hw.1 hc
          exact hJ_18 hp_22 nx_23 kc_3 ks_4 _ _ _ hw hl hH hz hS
  exact hL_0 n_141 hp nx 0 0 _ _ _ hI hl hH hz hS
theorem fn_X11_44 {ci : Nat} (h : ci ∈ [0]) : zFkN "WhatIfSheet$Reader" 44 ci 19 := by
  simp only [List.mem_cons, List.not_mem_nil, or_false] at h
  rcases h with rfl
  · exact ⟨RX0, TX0, 30, "WhatIfSheet", rfl, by decide, q1229⟩
def wp_X11_here (l : Launch) (g : zG) (d : Nat) (h0 : Nat) (hp : zHp) (nx : Nat) (Post : Int32 → zHp → Nat → Prop) : Prop :=
  (zgI hp (some h0) [11] 0 fun x_4 =>
  (zgR hp (some h0) [11] 9 fun r_8 =>
  (zgI hp r_8 [0] 20 fun x_12 =>
  (∃ P_34 : Int32 → Prop, (∀ (x_13 : Int32), P_34 x_13 →
  (Post x_13 hp nx)) ∧
  ((x_12 ≤ x_4 →
  P_34 (-1 : Int32)) ∧
  (¬ x_12 ≤ x_4 →
  (zgR hp (some h0) [11] 9 fun r_17 =>
  (zgR hp r_17 [0] 19 fun r_21 =>
  (zgI hp (some h0) [11] 0 fun x_25 =>
  (zaI (g.2.1 2) hp r_21 fun a_26 n_27 f_28 => vp_in x_25 n_27 ∧ ∀ x_29 : Int32, x_29 = f_28 x_25.toNatClampNeg →
  P_34 (x_29 &&& (255 : Int32))))))))))))
set_option maxHeartbeats 40000000 in
theorem met_X11_here {l : Launch} {g : zG} {d : Nat} {h0 : Nat} {hp : zHp} {nx : Nat} {Post : Int32 → zHp → Nat → Prop} (hw : wp_X11_here l g d h0 hp nx Post) : zMt l g yX11_here cX11_here 1 (some .int) (d + 1) 0 0 [.ref h0] hp nx (zQi g Post) := by
  refine z_start (by decide) (Nat.le_of_ble_eq_true rfl) ?_
  intro p e s m below meth c hk hr hin hH hz ls hl
  have hx := hk.1.1
  have hb := hk.1.2.1
  have hown := hk.1.2.2.2.1
  have hts := hk.1.2.2.2.2
  have hS : va_S (zAd g) s.heap s.heap [] := va_S.rf
  have hl : lv_has ls 1 [(0, va_rf (some h0))] := hl
  unfold wp_X11_here at hw
  refine zr_aload_n (r := some h0) hx hb dX11_here_0 rfl (lv_at hl 0 rfl) ?_
  obtain ⟨a_1, ci_2, fs_3, x_4, er, he, hc, hv, hw⟩ := zgI_e hw
  refine zw_get hk hH er he hv (fk_X11_38 hc) dX11_here_1 ?_
  refine zr_aload_n (r := some h0) hx hb dX11_here_4 rfl (lv_at hl 0 rfl) ?_
  obtain ⟨a_5, ci_6, fs_7, r_8, er, he, hc, hv, hw⟩ := zgR_e hw
  refine zw_get hk hH er he hv (fk_X11_3 hc) dX11_here_5 ?_
  obtain ⟨a_9, ci_10, fs_11, x_12, er, he, hc, hv, hw⟩ := zgI_e hw
  refine zw_getN hk hH er he hv (fn_X11_41 hc) dX11_here_8 ?_
  obtain ⟨P_34, hP_34, hw⟩ := hw
  have hJ_34 : ∀ (x_13 : Int32) (H : Heap) (locs : List Loc) (ls : Array Slot), P_34 x_13 → lv_has ls 1 [(0, va_rf (some h0))] → zHd g hp H → H.size = nx → va_S (zAd g) s.heap H locs → W p l e (zrm (d + 1) 0 0) s m ([.ref h0] : List Value).toArray below meth c H locs 0 0 (MQ below (zQi g Post) ([.ref h0] : List Value).toArray s 0 0 (zAd g)) (F0 m 34 ls [.int x_13]) := by
    intro x_13 H locs ls hw hl hH hz hS
    have hw := hP_34 x_13 hw
    exact zr_iret hk hr hH hz hS hw (Nat.le_of_ble_eq_true rfl) (Nat.le_of_ble_eq_true rfl) dX11_here_34
  refine lv_icmp_ge (tgt := 33) hx hb dX11_here_11 (by decide) (fun hc => ?_) (fun hc => ?_)
  · have hw := hw.1 hc
    refine lv_iconst (v := (-1 : Int32)) hx hb dX11_here_33 (by decide) ?_
    exact hJ_34 (-1 : Int32) _ _ _ hw hl hH hz hS
  · have hw := hw.2 hc
    refine zr_aload_n (r := some h0) hx hb dX11_here_14 rfl (lv_at hl 0 rfl) ?_
    obtain ⟨a_14, ci_15, fs_16, r_17, er, he, hc, hv, hw⟩ := zgR_e hw
    refine zw_get hk hH er he hv (fk_X11_3 hc) dX11_here_15 ?_
    obtain ⟨a_18, ci_19, fs_20, r_21, er, he, hc, hv, hw⟩ := zgR_e hw
    refine zw_getN hk hH er he hv (fn_X11_44 hc) dX11_here_18 ?_
    refine zr_aload_n (r := some h0) hx hb dX11_here_21 rfl (lv_at hl 0 rfl) ?_
    obtain ⟨a_22, ci_23, fs_24, x_25, er, he, hc, hv, hw⟩ := zgI_e hw
    refine zw_get hk hH er he hv (fk_X11_38 hc) dX11_here_22 ?_
    obtain ⟨a_26, n_27, f_28, er, he, hi, hw⟩ := zaI_e hw
    have hw := hw _ rfl
    refine zw_bald hk hH er he hi dX11_here_25 ?_
    generalize f_28 x_25.toNatClampNeg = x_29 at hw ⊢
    refine lv_sipush (v := (255 : Int32)) hx hb dX11_here_26 (by decide) ?_
    refine lv_iand hx hb dX11_here_29 ?_
    refine lv_goto (tgt := 34) hx hb dX11_here_30 (by decide) ?_
    exact hJ_34 (x_29 &&& (255 : Int32)) _ _ _ hw hl hH hz hS
theorem no_X11_90 : zNo "WhatIfSheet$Reader" 90 39 := ⟨RJ6, TJ6, 4, rfl, q1408, q332, q139⟩
def wp_X11_word (l : Launch) (g : zG) (d : Nat) (mc ms : Nat) (h0 : Nat) (hp : zHp) (nx : Nat) (Post : zHp → Nat → Prop) : Prop :=
  (znw g mc ms hp nx 0 0 39 fun hp_1 =>
  ∀ nx_2 kc_3 ks_4 : Nat, nx_2 = (nx + 1) → kc_3 = (0 + 1) → ks_4 = (0 + zNn 39) →
  (∃ c_5 s_6 : Nat, kc_3 + c_5 ≤ mc ∧ ks_4 + s_6 ≤ ms ∧ zMt l g yJ6_init_2 cJ6_init_2 2 none d c_5 s_6 (.ref nx :: [.int (8 : Int32)]) hp_1 nx_2 (zQv g fun hp_7 nx_8 =>
  (∃ I_10 : Nat → (Option Nat) → zHp → Nat → Nat → Nat → Prop, (∃ n_70, I_10 n_70 (some nx) hp_7 nx_8 (kc_3 + c_5) (ks_4 + s_6)) ∧ ∀ (n_14 : Nat) (r_9 : Option Nat) (hp_10 : zHp) (nx_11 : Nat) (kc_12 : Nat) (ks_13 : Nat), I_10 n_14 r_9 hp_10 nx_11 kc_12 ks_13 →
  (kc_12 ≤ mc ∧ ks_13 ≤ ms ∧ zo hp_10 (some h0) [11] fun a_67 ci_68 fs_69 => zMt l g yX11_here cX11_here 1 (some .int) d 0 0 (.ref a_67 :: []) hp_10 nx_11 (zQi g fun x_17 hp_15 nx_16 =>
  (kc_12 ≤ mc ∧ ks_13 ≤ ms ∧ zMt l g yX0_in cX0_in 6 (some .boolean) d 0 0 [.long x_17.toInt64, .long (97 : Int64), .long (122 : Int64)] hp_15 nx_16 (zQi g fun x_20 hp_18 nx_19 =>
  ((x_20 = 0 →
  (∃ c_21 s_22 : Nat, kc_12 + c_21 ≤ mc ∧ ks_13 + s_22 ≤ ms ∧ zo hp_18 r_9 [39] fun a_30 ci_31 fs_32 => zMt l g yJ6_toString cJ6_toString 1 (some (.object "java/lang/String")) d c_21 s_22 (.ref a_30 :: []) hp_18 nx_19 (zQq g fun r_25 hp_23 nx_24 =>
  (zpt g hp_23 (some h0) [11] 3 (va_rf r_25) fun hp_29 =>
  ((kc_12 + c_21) ≤ mc ∧ (ks_13 + s_22) ≤ ms ∧ Post hp_29 nx_24))))) ∧
  (¬ x_20 = 0 →
  (kc_12 ≤ mc ∧ ks_13 ≤ ms ∧ zo hp_18 r_9 [39] fun a_64 ci_65 fs_66 => zMt l g yJ6_length cJ6_length 1 (some .int) d 0 0 (.ref a_64 :: []) hp_18 nx_19 (zQi g fun x_35 hp_33 nx_34 =>
  (∃ P_46 : (Option Nat) → zHp → Nat → Nat → Nat → Prop, (∀ (r_36 : Option Nat) (hp_37 : zHp) (nx_38 : Nat) (kc_39 : Nat) (ks_40 : Nat), P_46 r_36 hp_37 nx_38 kc_39 ks_40 →
  (zgI hp_37 (some h0) [11] 0 fun x_44 =>
  (zpt g hp_37 (some h0) [11] 0 (.int (x_44 + (1 : Int32))) fun hp_48 =>
  (∃ k_49, k_49 < n_14 ∧ I_10 k_49 r_36 hp_48 nx_38 kc_39 ks_40)))) ∧
  (((6 : Int32) ≤ x_35 →
  P_46 r_9 hp_33 nx_34 kc_12 ks_13) ∧
  (¬ (6 : Int32) ≤ x_35 →
  (kc_12 ≤ mc ∧ ks_13 ≤ ms ∧ zo hp_33 (some h0) [11] fun a_61 ci_62 fs_63 => zMt l g yX11_here cX11_here 1 (some .int) d 0 0 (.ref a_61 :: []) hp_33 nx_34 (zQi g fun x_52 hp_50 nx_51 =>
  (∃ c_53 s_54 : Nat, kc_12 + c_53 ≤ mc ∧ ks_13 + s_54 ≤ ms ∧ zo hp_50 r_9 [39] fun a_58 ci_59 fs_60 => zMt l g yJ6_append_3 cJ6_append_3 2 (some (.object "java/lang/StringBuilder")) d c_53 s_54 (.ref a_58 :: [.int ((x_52.toUInt32 % 65536).toInt32)]) hp_50 nx_51 (zQq g fun r_57 hp_55 nx_56 =>
  P_46 r_9 hp_55 nx_56 (kc_12 + c_53) (ks_13 + s_54))))))))))))))))))))
set_option maxHeartbeats 40000000 in
theorem met_X11_word {l : Launch} {g : zG} {d : Nat} {mc ms : Nat} {h0 : Nat} {hp : zHp} {nx : Nat} {Post : zHp → Nat → Prop} (hw : wp_X11_word l g d mc ms h0 hp nx Post) : zMt l g yX11_word cX11_word 2 none (d + 1) mc ms [.ref h0] hp nx (zQv g Post) := by
  refine z_start (by decide) (Nat.le_of_ble_eq_true rfl) ?_
  intro p e s m below meth c hk hr hin hH hz ls hl
  have hx := hk.1.1
  have hb := hk.1.2.1
  have hown := hk.1.2.2.2.1
  have hts := hk.1.2.2.2.2
  have hS : va_S (zAd g) s.heap s.heap [] := va_S.rf
  have hl : lv_has ls 2 [(0, va_rf (some h0))] := hl
  unfold wp_X11_word at hw
  obtain ⟨hcl, hsl, hw⟩ := hw
  refine zx_new hk hH hz hS (ci := 39) no_X11_90 hcl hsl dX11_word_0 (fun H hH hz hS hlt hnb => ?_)
  have hw := hw hlt hnb
  generalize va_up hp nx _ = hp_1 at hH hw
  obtain ⟨kc_3, ekc⟩ : ∃ k, k = (0 + 1) := ⟨_, rfl⟩
  obtain ⟨ks_4, eks⟩ : ∃ k, k = (0 + zNn 39) := ⟨_, rfl⟩
  have hw := hw _ _ _ rfl ekc eks
  refine W.widen (Nat.le_of_eq ekc.symm) (Nat.le_of_eq eks.symm) ?_
  clear ekc eks
  generalize (nx + 1) = nx_2 at hz hw
  refine lv_dup hx hb dX11_word_3 (z_cat _) ?_
  refine lv_bipush (v := (8 : Int32)) hx hb dX11_word_4 (by decide) ?_
  obtain ⟨c_5, s_6, hcl, hsl, hw⟩ := hw
  refine zr_callv (zw_runI (As := [.int (8 : Int32)]) (r := some nx) hk hH hz hS hl.1 rfl hw (cwI 1 hts (lw_meth q1411) rfl rfl rfl (hts _ q139) (hts _ q1409) (hts _ q1410) rfl (by decide +kernel) (z_room (Nat.le_of_ble_eq_true rfl))) rfl rfl (by simp only [List.map_cons, List.map_nil, z_cat]; exact Nat.le_of_ble_eq_true rfl) dX11_word_6 ⟨hcl, hsl⟩) hS (fun hp_7 nx_8 hw H locs hH hz hS => ?_)
  refine zr_astore_n (r := some nx) (i := 1) (lv' := [(1, va_rf (some nx)), (0, va_rf (some h0))]) hx hb dX11_word_9 rfl hl (by decide) (by first | rfl | simp [List.filter_cons, z_cat, z_catI, z_catJ, z_catF, z_catD]) (fun ls hl => ?_)
  obtain ⟨I_10, ⟨n_70, hI⟩, hB_10⟩ := hw
  have hL_10 : ∀ (n_14 : Nat) (r_9 : Option Nat) (hp_10 : zHp) (nx_11 : Nat) (kc_12 : Nat) (ks_13 : Nat) (H : Heap) (locs : List Loc) (ls : Array Slot), I_10 n_14 r_9 hp_10 nx_11 kc_12 ks_13 → lv_has ls 2 [(0, va_rf (some h0)), (1, va_rf r_9)] → zHd g hp_10 H → H.size = nx_11 → va_S (zAd g) s.heap H locs → W p l e (zrm (d + 1) mc ms) s m ([.ref h0] : List Value).toArray below meth c H locs kc_12 ks_13 (MQ below (zQv g Post) ([.ref h0] : List Value).toArray s mc ms (zAd g)) (F0 m 10 ls []) := by
    intro n_14
    induction n_14 using Nat.strongRecOn with
    | _ n_14 ih_10 =>
      intro r_9 hp_10 nx_11 kc_12 ks_13 H locs ls hw hl hH hz hS
      have hw := hB_10 n_14 r_9 hp_10 nx_11 kc_12 ks_13 hw
      refine zr_aload_n (r := some h0) hx hb dX11_word_10 rfl (lv_at hl 0 rfl) ?_
      obtain ⟨hcl, hsl, hw⟩ := hw
      obtain ⟨a_67, ci_68, fs_69, er, he, hc, hw⟩ := zo_e hw
      obtain rfl := List.mem_singleton.mp hc
      refine zr_calli (zw_runV (As := []) hk hH hz hS hl.1 er hw (cwV 0 hts (lw_V q1397 q1399 qs21 q170 q1400) rfl rfl rfl (by decide +kernel) (z_room (Nat.le_of_ble_eq_true rfl))) he rfl rfl rfl (Nat.le_of_ble_eq_true rfl) dX11_word_11 ⟨hcl, hsl⟩) hS (fun x_17 hp_15 nx_16 hw H locs hH hz hS => ?_)
      refine lv_i2l hx hb dX11_word_14 rfl ?_
      refine lv_ldc2 hx hb hown (hts _ q1401) dX11_word_15 ?_
      refine lv_ldc2 hx hb hown (hts _ q1402) dX11_word_18 ?_
      obtain ⟨hcl, hsl, hw⟩ := hw
      refine zr_calli (zr_runSN (As := [.long x_17.toInt64, .long (97 : Int64), .long (122 : Int64)]) hk hH hz hS hl.1 hw ⟨va_cnB 3 hts (lw_meth q1310) rfl rfl rfl (hk.2.2.1.1 _ q1403 rfl) (hts _ q131) (by decide +kernel) (z_room (Nat.le_of_ble_eq_true rfl)), hts _ q1309, trivial⟩ rfl rfl (Nat.le_of_ble_eq_true rfl) dX11_word_21 ⟨hcl, hsl⟩) hS (fun x_20 hp_18 nx_19 hw H locs hH hz hS => ?_)
      refine lv_if_eq (tgt := 59) hx hb dX11_word_24 (by decide) (fun hc => ?_) (fun hc => ?_)
      · have hw := hw.1 hc
        refine zr_aload_n (r := some h0) hx hb dX11_word_59 rfl (lv_at hl 0 rfl) ?_
        refine zr_aload_n (r := r_9) hx hb dX11_word_60 rfl (lv_at hl 1 rfl) ?_
        obtain ⟨c_21, s_22, hcl, hsl, hw⟩ := hw
        obtain ⟨a_30, ci_31, fs_32, er, he, hc, hw⟩ := zo_e hw
        obtain rfl := List.mem_singleton.mp hc
        refine zr_callq (zw_runV (As := []) hk hH hz hS hl.1 er hw (cwV 0 hts (lw_V q1435 q533 q534 q139 q535) rfl rfl rfl (by decide +kernel) (z_room (Nat.le_of_ble_eq_true rfl))) he rfl rfl rfl (by simp only [List.map_cons, List.map_nil, z_cat]; exact Nat.le_of_ble_eq_true rfl) dX11_word_61 ⟨hcl, hsl⟩) hS (fun r_25 hp_23 nx_24 hw H locs hH hz hS => ?_)
        obtain ⟨a_26, ci_27, fs_28, hp_29, er, he, hc, hA, hkl, eh, hw⟩ := zpt_e hw
        refine zw_put hk hH hz hS er he hA hkl eh (fp_X11_52 hc) (z_narR _ _) (z_fitR _ _) dX11_word_64 (fun H locs hH hz hS => ?_)
        obtain ⟨hkc, hks, hw⟩ := hw
        exact zr_vret hk hr hH hz hS hw hkc hks dX11_word_67
      · have hw := hw.2 hc
        refine zr_aload_n (r := r_9) hx hb dX11_word_27 rfl (lv_at hl 1 rfl) ?_
        obtain ⟨hcl, hsl, hw⟩ := hw
        obtain ⟨a_64, ci_65, fs_66, er, he, hc, hw⟩ := zo_e hw
        obtain rfl := List.mem_singleton.mp hc
        refine zr_calli (zw_runV (As := []) hk hH hz hS hl.1 er hw (cwV 0 hts (lw_V q1412 q554 q3356 q139 q555) rfl rfl rfl (by decide +kernel) (z_room (Nat.le_of_ble_eq_true rfl))) he rfl rfl rfl (Nat.le_of_ble_eq_true rfl) dX11_word_28 ⟨hcl, hsl⟩) hS (fun x_35 hp_33 nx_34 hw H locs hH hz hS => ?_)
        refine lv_bipush (v := (6 : Int32)) hx hb dX11_word_31 (by decide) ?_
        obtain ⟨P_46, hP_46, hw⟩ := hw
        have hJ_46 : ∀ (r_36 : Option Nat) (hp_37 : zHp) (nx_38 : Nat) (kc_39 : Nat) (ks_40 : Nat) (H : Heap) (locs : List Loc) (ls : Array Slot), P_46 r_36 hp_37 nx_38 kc_39 ks_40 → lv_has ls 2 [(0, va_rf (some h0)), (1, va_rf r_36)] → zHd g hp_37 H → H.size = nx_38 → va_S (zAd g) s.heap H locs → W p l e (zrm (d + 1) mc ms) s m ([.ref h0] : List Value).toArray below meth c H locs kc_39 ks_40 (MQ below (zQv g Post) ([.ref h0] : List Value).toArray s mc ms (zAd g)) (F0 m 46 ls []) := by
          intro r_36 hp_37 nx_38 kc_39 ks_40 H locs ls hw hl hH hz hS
          have hw := hP_46 r_36 hp_37 nx_38 kc_39 ks_40 hw
          refine zr_aload_n (r := some h0) hx hb dX11_word_46 rfl (lv_at hl 0 rfl) ?_
          refine lv_dup hx hb dX11_word_47 (z_cat _) ?_
          obtain ⟨a_41, ci_42, fs_43, x_44, er, he, hc, hv, hw⟩ := zgI_e hw
          refine zw_get hk hH er he hv (fk_X11_38 hc) dX11_word_48 ?_
          refine lv_iconst (v := (1 : Int32)) hx hb dX11_word_51 (by decide) ?_
          refine lv_iadd hx hb dX11_word_52 ?_
          obtain ⟨a_45, ci_46, fs_47, hp_48, er, he, hc, hA, hkl, eh, hw⟩ := zpt_e hw
          refine zw_put hk hH hz hS er he hA hkl eh (fp_X11_38 hc) rfl rfl dX11_word_53 (fun H locs hH hz hS => ?_)
          refine lv_goto (tgt := 10) hx hb dX11_word_56 (by decide) ?_
          obtain ⟨k_49, hlt, hw⟩ := hw
          exact ih_10 k_49 hlt r_36 hp_48 nx_38 kc_39 ks_40 _ _ _ hw hl hH hz hS
        refine lv_icmp_ge (tgt := 46) hx hb dX11_word_33 (by decide) (fun hc => ?_) (fun hc => ?_)
        · have hw := hw.1 hc
          exact hJ_46 r_9 hp_33 nx_34 kc_12 ks_13 _ _ _ hw hl hH hz hS
        · have hw := hw.2 hc
          refine zr_aload_n (r := r_9) hx hb dX11_word_36 rfl (lv_at hl 1 rfl) ?_
          refine zr_aload_n (r := some h0) hx hb dX11_word_37 rfl (lv_at hl 0 rfl) ?_
          obtain ⟨hcl, hsl, hw⟩ := hw
          obtain ⟨a_61, ci_62, fs_63, er, he, hc, hw⟩ := zo_e hw
          obtain rfl := List.mem_singleton.mp hc
          refine zr_calli (zw_runV (As := []) hk hH hz hS hl.1 er hw (cwV 0 hts (lw_V q1397 q1399 qs21 q170 q1400) rfl rfl rfl (by decide +kernel) (z_room (Nat.le_of_ble_eq_true rfl))) he rfl rfl rfl (by simp only [List.map_cons, List.map_nil, z_cat]; exact Nat.le_of_ble_eq_true rfl) dX11_word_38 ⟨hcl, hsl⟩) hS (fun x_52 hp_50 nx_51 hw H locs hH hz hS => ?_)
          refine lv_i2c hx hb dX11_word_41 rfl ?_
          obtain ⟨c_53, s_54, hcl, hsl, hw⟩ := hw
          obtain ⟨a_58, ci_59, fs_60, er, he, hc, hw⟩ := zo_e hw
          obtain rfl := List.mem_singleton.mp hc
          refine zr_callq (zw_runV (As := [.int ((x_52.toUInt32 % 65536).toInt32)]) hk hH hz hS hl.1 er hw (cwV 1 hts (lw_V q1413 q1414 q1415 q139 q1416) rfl rfl rfl (by decide +kernel) (z_room (Nat.le_of_ble_eq_true rfl))) he rfl rfl rfl (Nat.le_of_ble_eq_true rfl) dX11_word_42 ⟨hcl, hsl⟩) hS (fun r_57 hp_55 nx_56 hw H locs hH hz hS => ?_)
          refine lv_pop hx hb dX11_word_45 (z_cat _) ?_
          exact hJ_46 r_9 hp_55 nx_56 (kc_12 + c_53) (ks_13 + s_54) _ _ _ hw hl hH hz hS
  exact hL_10 n_70 (some nx) hp_7 nx_8 (kc_3 + c_5) (ks_4 + s_6) _ _ _ hI (lv_sub hl [1, 0] rfl) hH hz hS
theorem fp_X11_107 {ci : Nat} (h : ci ∈ [11]) : zFp "WhatIfSheet$Reader" 107 ci 6 .boolean := by
  simp only [List.mem_cons, List.not_mem_nil, or_false] at h
  rcases h with rfl
  · exact ⟨RX11, TX11, 10, rfl, by decide, q1364, rfl, by decide +kernel⟩
theorem fk_X11_107 {ci : Nat} (h : ci ∈ [11]) : zFk "WhatIfSheet$Reader" 107 ci 6 := by
  simp only [List.mem_cons, List.not_mem_nil, or_false] at h
  rcases h with rfl
  · exact ⟨RX11, TX11, 10, rfl, by decide, q1364⟩
def wp_X11_number (l : Launch) (g : zG) (d : Nat) (mc ms : Nat) (h0 : Nat) (hp : zHp) (nx : Nat) (Post : zHp → Nat → Prop) (PostX : Nat → zHp → Nat → Prop) : Prop :=
  (∃ c_1 s_2 : Nat, 0 + c_1 ≤ mc ∧ 0 + s_2 ≤ ms ∧ zo hp (some h0) [11] fun a_60 ci_61 fs_62 => zMx l g yX11_digits cX11_digits 4 (some .int) d c_1 s_2 (.ref a_60 :: [.int (4 : Int32)]) hp nx (zQi g fun x_5 hp_3 nx_4 =>
  (zpt g hp_3 (some h0) [11] 4 (.int ((1000 : Int32) * x_5)) fun hp_9 =>
  ((0 + c_1) ≤ mc ∧ (0 + s_2) ≤ ms ∧ zo hp_9 (some h0) [11] fun a_54 ci_55 fs_56 => zMt l g yX11_here cX11_here 1 (some .int) d 0 0 (.ref a_54 :: []) hp_9 nx_4 (zQi g fun x_12 hp_10 nx_11 =>
  (∃ P_28 : (Option Nat) → Int32 → zHp → Nat → Nat → Nat → Prop, (∀ (r_13 : Option Nat) (x_14 : Int32) (hp_15 : zHp) (nx_16 : Nat) (kc_17 : Nat) (ks_18 : Nat), P_28 r_13 x_14 hp_15 nx_16 kc_17 ks_18 →
  ((x_14 = 0 ∨ x_14 = 1) ∧ zpt g hp_15 r_13 [11] 6 (.int x_14) fun hp_22 =>
  (zgI hp_22 (some h0) [11] 6 fun x_26 =>
  ((x_26 = 0 →
  (zgI hp_22 (some h0) [11] 0 fun x_30 =>
  (zpt g hp_22 (some h0) [11] 0 (.int (x_30 + (1 : Int32))) fun hp_34 =>
  (zgI hp_34 (some h0) [11] 4 fun x_38 =>
  (∃ c_39 s_40 : Nat, kc_17 + c_39 ≤ mc ∧ ks_18 + s_40 ≤ ms ∧ zo hp_34 (some h0) [11] fun a_51 ci_52 fs_53 => zMx l g yX11_digits cX11_digits 4 (some .int) d c_39 s_40 (.ref a_51 :: [.int (3 : Int32)]) hp_34 nx_16 (zQi g fun x_43 hp_41 nx_42 =>
  (zpt g hp_41 (some h0) [11] 4 (.int (x_38 + x_43)) fun hp_47 =>
  ((kc_17 + c_39) ≤ mc ∧ (ks_18 + s_40) ≤ ms ∧ Post hp_47 nx_42))) "WhatIfSheet$Fault" (fun q_48 hp_49 nx_50 => (kc_17 + c_39) ≤ mc ∧ (ks_18 + s_40) ≤ ms ∧ PostX q_48 hp_49 nx_50)))))) ∧
  (¬ x_26 = 0 →
  (kc_17 ≤ mc ∧ ks_18 ≤ ms ∧ Post hp_22 nx_16)))))) ∧
  ((x_12 = (46 : Int32) →
  P_28 (some h0) (0 : Int32) hp_10 nx_11 (0 + c_1) (0 + s_2)) ∧
  (¬ x_12 = (46 : Int32) →
  P_28 (some h0) (1 : Int32) hp_10 nx_11 (0 + c_1) (0 + s_2)))))))) "WhatIfSheet$Fault" (fun q_57 hp_58 nx_59 => (0 + c_1) ≤ mc ∧ (0 + s_2) ≤ ms ∧ PostX q_57 hp_58 nx_59))
set_option maxHeartbeats 40000000 in
theorem met_X11_number {l : Launch} {g : zG} {d : Nat} {mc ms : Nat} {h0 : Nat} {hp : zHp} {nx : Nat} {Post : zHp → Nat → Prop} {PostX : Nat → zHp → Nat → Prop} (hw : wp_X11_number l g d mc ms h0 hp nx Post PostX) : zMx l g yX11_number cX11_number 1 none (d + 1) mc ms [.ref h0] hp nx (zQv g Post) "WhatIfSheet$Fault" PostX := by
  refine zy_start (by decide) (Nat.le_of_ble_eq_true rfl) ?_
  intro p e s m below meth c hk hr hin htb hH hz ls hl
  have hx := hk.1.1
  have hb := hk.1.2.1
  have hown := hk.1.2.2.2.1
  have hts := hk.1.2.2.2.2
  have hS : va_S (zAd g) s.heap s.heap [] := va_S.rf
  have hl : lv_has ls 1 [(0, va_rf (some h0))] := hl
  unfold wp_X11_number at hw
  refine zr_aload_n (r := some h0) hx hb dX11_number_0 rfl (lv_at hl 0 rfl) ?_
  refine lv_sipush (v := (1000 : Int32)) hx hb dX11_number_1 (by decide) ?_
  refine zr_aload_n (r := some h0) hx hb dX11_number_4 rfl (lv_at hl 0 rfl) ?_
  refine lv_iconst (v := (4 : Int32)) hx hb dX11_number_5 (by decide) ?_
  obtain ⟨c_1, s_2, hcl, hsl, hw⟩ := hw
  obtain ⟨a_60, ci_61, fs_62, er, he, hc, hw⟩ := zo_e hw
  obtain rfl := List.mem_singleton.mp hc
  refine zy_calli (zy_runV (As := [.int (4 : Int32)]) hk hH hz hS hl.1 er hw (cwV 1 hts (lw_V q1442 q1444 qs24 q170 q1445) rfl rfl rfl (by decide +kernel) (z_room (Nat.le_of_ble_eq_true rfl))) he rfl rfl rfl (by simp only [List.map_cons, List.map_nil, z_cat]; exact Nat.le_of_ble_eq_true rfl) dX11_number_6 ⟨hcl, hsl⟩) hS ?_ (fun x_5 hp_3 nx_4 hw H locs hH hz hS => ?_)
  · intro q_57 hp_58 nx_59 hw H locs hH hz hS hq
    obtain ⟨hkc, hks, hw⟩ := hw
    exact zy_out hk hH hz hS htb hq hw hkc hks
  · refine lv_imul hx hb dX11_number_9 ?_
    obtain ⟨a_6, ci_7, fs_8, hp_9, er, he, hc, hA, hkl, eh, hw⟩ := zpt_e hw
    refine zw_put hk hH hz hS er he hA hkl eh (fp_X11_56 hc) rfl rfl dX11_number_10 (fun H locs hH hz hS => ?_)
    refine zr_aload_n (r := some h0) hx hb dX11_number_13 rfl (lv_at hl 0 rfl) ?_
    refine zr_aload_n (r := some h0) hx hb dX11_number_14 rfl (lv_at hl 0 rfl) ?_
    obtain ⟨hcl, hsl, hw⟩ := hw
    obtain ⟨a_54, ci_55, fs_56, er, he, hc, hw⟩ := zo_e hw
    obtain rfl := List.mem_singleton.mp hc
    refine zr_calli (zw_runV (As := []) hk hH hz hS hl.1 er hw (cwV 0 hts (lw_V q1397 q1399 qs21 q170 q1400) rfl rfl rfl (by decide +kernel) (z_room (Nat.le_of_ble_eq_true rfl))) he rfl rfl rfl (by simp only [List.map_cons, List.map_nil, z_cat]; exact Nat.le_of_ble_eq_true rfl) dX11_number_15 ⟨hcl, hsl⟩) hS (fun x_12 hp_10 nx_11 hw H locs hH hz hS => ?_)
    refine lv_bipush (v := (46 : Int32)) hx hb dX11_number_18 (by decide) ?_
    obtain ⟨P_28, hP_28, hw⟩ := hw
    have hJ_28 : ∀ (r_13 : Option Nat) (x_14 : Int32) (hp_15 : zHp) (nx_16 : Nat) (kc_17 : Nat) (ks_18 : Nat) (H : Heap) (locs : List Loc) (ls : Array Slot), P_28 r_13 x_14 hp_15 nx_16 kc_17 ks_18 → lv_has ls 1 [(0, va_rf (some h0))] → zHd g hp_15 H → H.size = nx_16 → va_S (zAd g) s.heap H locs → W p l e (zrm (d + 1) mc ms) s m ([.ref h0] : List Value).toArray below meth c H locs kc_17 ks_18 (vy_MQ below (zQv g Post) (zXC g "WhatIfSheet$Fault" PostX) ([.ref h0] : List Value).toArray s mc ms (zAd g)) (F0 m 28 ls [.int x_14, va_rf r_13]) := by
      intro r_13 x_14 hp_15 nx_16 kc_17 ks_18 H locs ls hw hl hH hz hS
      have hw := hP_28 r_13 x_14 hp_15 nx_16 kc_17 ks_18 hw
      obtain ⟨hbo, hw⟩ := hw
      obtain ⟨a_19, ci_20, fs_21, hp_22, er, he, hc, hA, hkl, eh, hw⟩ := zpt_e hw
      refine zw_put hk hH hz hS er he hA hkl eh (fp_X11_107 hc) (z_nb hbo) (z_fb hbo) dX11_number_28 (fun H locs hH hz hS => ?_)
      refine zr_aload_n (r := some h0) hx hb dX11_number_31 rfl (lv_at hl 0 rfl) ?_
      obtain ⟨a_23, ci_24, fs_25, x_26, er, he, hc, hv, hw⟩ := zgI_e hw
      refine zw_get hk hH er he hv (fk_X11_107 hc) dX11_number_32 ?_
      refine lv_if_eq (tgt := 39) hx hb dX11_number_35 (by decide) (fun hc => ?_) (fun hc => ?_)
      · have hw := hw.1 hc
        refine zr_aload_n (r := some h0) hx hb dX11_number_39 rfl (lv_at hl 0 rfl) ?_
        refine lv_dup hx hb dX11_number_40 (z_cat _) ?_
        obtain ⟨a_27, ci_28, fs_29, x_30, er, he, hc, hv, hw⟩ := zgI_e hw
        refine zw_get hk hH er he hv (fk_X11_38 hc) dX11_number_41 ?_
        refine lv_iconst (v := (1 : Int32)) hx hb dX11_number_44 (by decide) ?_
        refine lv_iadd hx hb dX11_number_45 ?_
        obtain ⟨a_31, ci_32, fs_33, hp_34, er, he, hc, hA, hkl, eh, hw⟩ := zpt_e hw
        refine zw_put hk hH hz hS er he hA hkl eh (fp_X11_38 hc) rfl rfl dX11_number_46 (fun H locs hH hz hS => ?_)
        refine zr_aload_n (r := some h0) hx hb dX11_number_49 rfl (lv_at hl 0 rfl) ?_
        refine lv_dup hx hb dX11_number_50 (z_cat _) ?_
        obtain ⟨a_35, ci_36, fs_37, x_38, er, he, hc, hv, hw⟩ := zgI_e hw
        refine zw_get hk hH er he hv (fk_X11_56 hc) dX11_number_51 ?_
        refine zr_aload_n (r := some h0) hx hb dX11_number_54 rfl (lv_at hl 0 rfl) ?_
        refine lv_iconst (v := (3 : Int32)) hx hb dX11_number_55 (by decide) ?_
        obtain ⟨c_39, s_40, hcl, hsl, hw⟩ := hw
        obtain ⟨a_51, ci_52, fs_53, er, he, hc, hw⟩ := zo_e hw
        obtain rfl := List.mem_singleton.mp hc
        refine zy_calli (zy_runV (As := [.int (3 : Int32)]) hk hH hz hS hl.1 er hw (cwV 1 hts (lw_V q1442 q1444 qs24 q170 q1445) rfl rfl rfl (by decide +kernel) (z_room (Nat.le_of_ble_eq_true rfl))) he rfl rfl rfl (by simp only [List.map_cons, List.map_nil, z_cat]; exact Nat.le_of_ble_eq_true rfl) dX11_number_56 ⟨hcl, hsl⟩) hS ?_ (fun x_43 hp_41 nx_42 hw H locs hH hz hS => ?_)
        · intro q_48 hp_49 nx_50 hw H locs hH hz hS hq
          obtain ⟨hkc, hks, hw⟩ := hw
          exact zy_out hk hH hz hS htb hq hw hkc hks
        · refine lv_iadd hx hb dX11_number_59 ?_
          obtain ⟨a_44, ci_45, fs_46, hp_47, er, he, hc, hA, hkl, eh, hw⟩ := zpt_e hw
          refine zw_put hk hH hz hS er he hA hkl eh (fp_X11_56 hc) rfl rfl dX11_number_60 (fun H locs hH hz hS => ?_)
          obtain ⟨hkc, hks, hw⟩ := hw
          exact vy_ret (zr_vret hk hr hH hz hS hw hkc hks dX11_number_63)
      · have hw := hw.2 hc
        obtain ⟨hkc, hks, hw⟩ := hw
        exact vy_ret (zr_vret hk hr hH hz hS hw hkc hks dX11_number_38)
    refine lv_icmp_eq (tgt := 27) hx hb dX11_number_20 (by decide) (fun hc => ?_) (fun hc => ?_)
    · have hw := hw.1 hc
      refine lv_iconst (v := (0 : Int32)) hx hb dX11_number_27 (by decide) ?_
      exact hJ_28 (some h0) (0 : Int32) hp_10 nx_11 (0 + c_1) (0 + s_2) _ _ _ hw hl hH hz hS
    · have hw := hw.2 hc
      refine lv_iconst (v := (1 : Int32)) hx hb dX11_number_23 (by decide) ?_
      refine lv_goto (tgt := 28) hx hb dX11_number_24 (by decide) ?_
      exact hJ_28 (some h0) (1 : Int32) hp_10 nx_11 (0 + c_1) (0 + s_2) _ _ _ hw hl hH hz hS
def wp_X11_digits (l : Launch) (g : zG) (d : Nat) (mc ms : Nat) (h0 : Nat) (x1 : Int32) (hp : zHp) (nx : Nat) (Post : Int32 → zHp → Nat → Prop) (PostX : Nat → zHp → Nat → Prop) : Prop :=
  (∃ I_4 : Nat → Int32 → Int32 → zHp → Nat → Nat → Nat → Prop, (∃ n_73, I_4 n_73 (0 : Int32) (0 : Int32) hp nx 0 0) ∧ ∀ (n_7 : Nat) (x_1 : Int32) (x_2 : Int32) (hp_3 : zHp) (nx_4 : Nat) (kc_5 : Nat) (ks_6 : Nat), I_4 n_7 x_1 x_2 hp_3 nx_4 kc_5 ks_6 →
  (kc_5 ≤ mc ∧ ks_6 ≤ ms ∧ zo hp_3 (some h0) [11] fun a_70 ci_71 fs_72 => zMt l g yX11_here cX11_here 1 (some .int) d 0 0 (.ref a_70 :: []) hp_3 nx_4 (zQi g fun x_10 hp_8 nx_9 =>
  (kc_5 ≤ mc ∧ ks_6 ≤ ms ∧ zMt l g yX0_in cX0_in 6 (some .boolean) d 0 0 [.long x_10.toInt64, .long (48 : Int64), .long (57 : Int64)] hp_8 nx_9 (zQi g fun x_13 hp_11 nx_12 =>
  ((x_13 = 0 →
  ((x_2 = 0 →
  (∃ c_31 s_32 : Nat, kc_5 + c_31 ≤ mc ∧ ks_6 + s_32 ≤ ms ∧ zo hp_11 (some h0) [11] fun a_39 ci_40 fs_41 => zMt l g yX11_fault cX11_fault 1 (some (.object "WhatIfSheet$Fault")) d c_31 s_32 (.ref a_39 :: []) hp_11 nx_12 (zQq g fun r_35 hp_33 nx_34 =>
  (zo hp_33 r_35 [12] fun a_36 ci_37 fs_38 => (kc_5 + c_31) ≤ mc ∧ (ks_6 + s_32) ≤ ms ∧ PostX a_36 hp_33 nx_34)))) ∧
  (¬ x_2 = 0 →
  (∃ I_69 : Nat → Int32 → Int32 → zHp → Nat → Nat → Nat → Prop, (∃ n_30, I_69 n_30 x_1 x_2 hp_11 nx_12 kc_5 ks_6) ∧ ∀ (n_20 : Nat) (x_14 : Int32) (x_15 : Int32) (hp_16 : zHp) (nx_17 : Nat) (kc_18 : Nat) (ks_19 : Nat), I_69 n_20 x_14 x_15 hp_16 nx_17 kc_18 ks_19 →
  (∃ P_90 : Int32 → Int32 → zHp → Nat → Nat → Nat → Prop, (∀ (x_21 : Int32) (x_22 : Int32) (hp_23 : zHp) (nx_24 : Nat) (kc_25 : Nat) (ks_26 : Nat), P_90 x_21 x_22 hp_23 nx_24 kc_25 ks_26 →
  (kc_25 ≤ mc ∧ ks_26 ≤ ms ∧ Post x_21 hp_23 nx_24)) ∧
  ((x1 = (3 : Int32) →
  (((3 : Int32) ≤ x_15 →
  P_90 x_14 x_15 hp_16 nx_17 kc_18 ks_19) ∧
  (¬ (3 : Int32) ≤ x_15 →
  (∀ x_27 : Int32, x_27 = x_14 * (10 : Int32) →
  (∀ x_28 : Int32, x_28 = x_15 + (1 : Int32) →
  (∃ k_29, k_29 < n_20 ∧ I_69 k_29 x_27 x_28 hp_16 nx_17 kc_18 ks_19)))))) ∧
  (¬ x1 = (3 : Int32) →
  P_90 x_14 x_15 hp_16 nx_17 kc_18 ks_19))))))) ∧
  (¬ x_13 = 0 →
  ((x_2 = x1 →
  (∃ c_59 s_60 : Nat, kc_5 + c_59 ≤ mc ∧ ks_6 + s_60 ≤ ms ∧ zo hp_11 (some h0) [11] fun a_67 ci_68 fs_69 => zMt l g yX11_fault cX11_fault 1 (some (.object "WhatIfSheet$Fault")) d c_59 s_60 (.ref a_67 :: []) hp_11 nx_12 (zQq g fun r_63 hp_61 nx_62 =>
  (zo hp_61 r_63 [12] fun a_64 ci_65 fs_66 => (kc_5 + c_59) ≤ mc ∧ (ks_6 + s_60) ≤ ms ∧ PostX a_64 hp_61 nx_62)))) ∧
  (¬ x_2 = x1 →
  (kc_5 ≤ mc ∧ ks_6 ≤ ms ∧ zo hp_11 (some h0) [11] fun a_56 ci_57 fs_58 => zMt l g yX11_here cX11_here 1 (some .int) d 0 0 (.ref a_56 :: []) hp_11 nx_12 (zQi g fun x_44 hp_42 nx_43 =>
  (∀ x_45 : Int32, x_45 = (((10 : Int32) * x_1) + x_44) - (48 : Int32) →
  (∀ x_46 : Int32, x_46 = x_2 + (1 : Int32) →
  (zgI hp_42 (some h0) [11] 0 fun x_50 =>
  (zpt g hp_42 (some h0) [11] 0 (.int (x_50 + (1 : Int32))) fun hp_54 =>
  (∃ k_55, k_55 < n_7 ∧ I_4 k_55 x_45 x_46 hp_54 nx_43 kc_5 ks_6))))))))))))))))
set_option maxHeartbeats 40000000 in
theorem met_X11_digits {l : Launch} {g : zG} {d : Nat} {mc ms : Nat} {h0 : Nat} {x1 : Int32} {hp : zHp} {nx : Nat} {Post : Int32 → zHp → Nat → Prop} {PostX : Nat → zHp → Nat → Prop} (hw : wp_X11_digits l g d mc ms h0 x1 hp nx Post PostX) : zMx l g yX11_digits cX11_digits 4 (some .int) (d + 1) mc ms [.ref h0, .int x1] hp nx (zQi g Post) "WhatIfSheet$Fault" PostX := by
  refine zy_start (by decide) (Nat.le_of_ble_eq_true rfl) ?_
  intro p e s m below meth c hk hr hin htb hH hz ls hl
  have hx := hk.1.1
  have hb := hk.1.2.1
  have hown := hk.1.2.2.2.1
  have hts := hk.1.2.2.2.2
  have hS : va_S (zAd g) s.heap s.heap [] := va_S.rf
  have hl : lv_has ls 4 [(0, va_rf (some h0)), (1, .int x1)] := hl
  unfold wp_X11_digits at hw
  refine lv_iconst (v := (0 : Int32)) hx hb dX11_digits_0 (by decide) ?_
  refine lv_istore_n (i := 2) (lv' := [(2, .int (0 : Int32)), (0, va_rf (some h0)), (1, .int x1)]) hx hb dX11_digits_1 rfl hl (by decide) (by first | rfl | simp [List.filter_cons, z_cat, z_catI, z_catJ, z_catF, z_catD]) (fun ls hl => ?_)
  refine lv_iconst (v := (0 : Int32)) hx hb dX11_digits_2 (by decide) ?_
  refine lv_istore_n (i := 3) (lv' := [(3, .int (0 : Int32)), (2, .int (0 : Int32)), (0, va_rf (some h0)), (1, .int x1)]) hx hb dX11_digits_3 rfl hl (by decide) (by first | rfl | simp [List.filter_cons, z_cat, z_catI, z_catJ, z_catF, z_catD]) (fun ls hl => ?_)
  obtain ⟨I_4, ⟨n_73, hI⟩, hB_4⟩ := hw
  have hL_4 : ∀ (n_7 : Nat) (x_1 : Int32) (x_2 : Int32) (hp_3 : zHp) (nx_4 : Nat) (kc_5 : Nat) (ks_6 : Nat) (H : Heap) (locs : List Loc) (ls : Array Slot), I_4 n_7 x_1 x_2 hp_3 nx_4 kc_5 ks_6 → lv_has ls 4 [(0, va_rf (some h0)), (1, .int x1), (2, .int x_1), (3, .int x_2)] → zHd g hp_3 H → H.size = nx_4 → va_S (zAd g) s.heap H locs → W p l e (zrm (d + 1) mc ms) s m ([.ref h0, .int x1] : List Value).toArray below meth c H locs kc_5 ks_6 (vy_MQ below (zQi g Post) (zXC g "WhatIfSheet$Fault" PostX) ([.ref h0, .int x1] : List Value).toArray s mc ms (zAd g)) (F0 m 4 ls []) := by
    intro n_7
    induction n_7 using Nat.strongRecOn with
    | _ n_7 ih_4 =>
      intro x_1 x_2 hp_3 nx_4 kc_5 ks_6 H locs ls hw hl hH hz hS
      have hw := hB_4 n_7 x_1 x_2 hp_3 nx_4 kc_5 ks_6 hw
      refine zr_aload_n (r := some h0) hx hb dX11_digits_4 rfl (lv_at hl 0 rfl) ?_
      obtain ⟨hcl, hsl, hw⟩ := hw
      obtain ⟨a_70, ci_71, fs_72, er, he, hc, hw⟩ := zo_e hw
      obtain rfl := List.mem_singleton.mp hc
      refine zr_calli (zw_runV (As := []) hk hH hz hS hl.1 er hw (cwV 0 hts (lw_V q1397 q1399 qs21 q170 q1400) rfl rfl rfl (by decide +kernel) (z_room (Nat.le_of_ble_eq_true rfl))) he rfl rfl rfl (Nat.le_of_ble_eq_true rfl) dX11_digits_5 ⟨hcl, hsl⟩) hS (fun x_10 hp_8 nx_9 hw H locs hH hz hS => ?_)
      refine lv_i2l hx hb dX11_digits_8 rfl ?_
      refine lv_ldc2 hx hb hown (hts _ q1436) dX11_digits_9 ?_
      refine lv_ldc2 hx hb hown (hts _ q1437) dX11_digits_12 ?_
      obtain ⟨hcl, hsl, hw⟩ := hw
      refine zr_calli (zr_runSN (As := [.long x_10.toInt64, .long (48 : Int64), .long (57 : Int64)]) hk hH hz hS hl.1 hw ⟨va_cnB 3 hts (lw_meth q1310) rfl rfl rfl (hk.2.2.1.1 _ q1403 rfl) (hts _ q131) (by decide +kernel) (z_room (Nat.le_of_ble_eq_true rfl)), hts _ q1309, trivial⟩ rfl rfl (Nat.le_of_ble_eq_true rfl) dX11_digits_15 ⟨hcl, hsl⟩) hS (fun x_13 hp_11 nx_12 hw H locs hH hz hS => ?_)
      refine lv_if_eq (tgt := 60) hx hb dX11_digits_18 (by decide) (fun hc => ?_) (fun hc => ?_)
      · have hw := hw.1 hc
        refine lv_iload_n hx hb dX11_digits_60 rfl (lv_at hl 3 rfl) ?_
        refine lv_if_ne (tgt := 69) hx hb dX11_digits_61 (by decide) (fun hc => ?_) (fun hc => ?_)
        · have hw := hw.2 hc
          obtain ⟨I_69, ⟨n_30, hI⟩, hB_69⟩ := hw
          have hL_69 : ∀ (n_20 : Nat) (x_14 : Int32) (x_15 : Int32) (hp_16 : zHp) (nx_17 : Nat) (kc_18 : Nat) (ks_19 : Nat) (H : Heap) (locs : List Loc) (ls : Array Slot), I_69 n_20 x_14 x_15 hp_16 nx_17 kc_18 ks_19 → lv_has ls 4 [(0, va_rf (some h0)), (1, .int x1), (2, .int x_14), (3, .int x_15)] → zHd g hp_16 H → H.size = nx_17 → va_S (zAd g) s.heap H locs → W p l e (zrm (d + 1) mc ms) s m ([.ref h0, .int x1] : List Value).toArray below meth c H locs kc_18 ks_19 (vy_MQ below (zQi g Post) (zXC g "WhatIfSheet$Fault" PostX) ([.ref h0, .int x1] : List Value).toArray s mc ms (zAd g)) (F0 m 69 ls []) := by
            intro n_20
            induction n_20 using Nat.strongRecOn with
            | _ n_20 ih_69 =>
              intro x_14 x_15 hp_16 nx_17 kc_18 ks_19 H locs ls hw hl hH hz hS
              have hw := hB_69 n_20 x_14 x_15 hp_16 nx_17 kc_18 ks_19 hw
              refine lv_iload_n hx hb dX11_digits_69 rfl (lv_at hl 1 rfl) ?_
              refine lv_iconst (v := (3 : Int32)) hx hb dX11_digits_70 (by decide) ?_
              obtain ⟨P_90, hP_90, hw⟩ := hw
              have hJ_90 : ∀ (x_21 : Int32) (x_22 : Int32) (hp_23 : zHp) (nx_24 : Nat) (kc_25 : Nat) (ks_26 : Nat) (H : Heap) (locs : List Loc) (ls : Array Slot), P_90 x_21 x_22 hp_23 nx_24 kc_25 ks_26 → lv_has ls 4 [(0, va_rf (some h0)), (1, .int x1), (2, .int x_21), (3, .int x_22)] → zHd g hp_23 H → H.size = nx_24 → va_S (zAd g) s.heap H locs → W p l e (zrm (d + 1) mc ms) s m ([.ref h0, .int x1] : List Value).toArray below meth c H locs kc_25 ks_26 (vy_MQ below (zQi g Post) (zXC g "WhatIfSheet$Fault" PostX) ([.ref h0, .int x1] : List Value).toArray s mc ms (zAd g)) (F0 m 90 ls []) := by
                intro x_21 x_22 hp_23 nx_24 kc_25 ks_26 H locs ls hw hl hH hz hS
                have hw := hP_90 x_21 x_22 hp_23 nx_24 kc_25 ks_26 hw
                refine lv_iload_n hx hb dX11_digits_90 rfl (lv_at hl 2 rfl) ?_
                obtain ⟨hkc, hks, hw⟩ := hw
                exact vy_ret (zr_iret hk hr hH hz hS hw hkc hks dX11_digits_91)
              refine lv_icmp_ne (tgt := 90) hx hb dX11_digits_71 (by decide) (fun hc => ?_) (fun hc => ?_)
              · have hw := hw.2 hc
                exact hJ_90 x_14 x_15 hp_16 nx_17 kc_18 ks_19 _ _ _ hw hl hH hz hS
              · have hw := hw.1 hc
                refine lv_iload_n hx hb dX11_digits_74 rfl (lv_at hl 3 rfl) ?_
                refine lv_iconst (v := (3 : Int32)) hx hb dX11_digits_75 (by decide) ?_
                refine lv_icmp_ge (tgt := 90) hx hb dX11_digits_76 (by decide) (fun hc => ?_) (fun hc => ?_)
                · have hw := hw.1 hc
                  exact hJ_90 x_14 x_15 hp_16 nx_17 kc_18 ks_19 _ _ _ hw hl hH hz hS
                · have hw := hw.2 hc
                  refine lv_iload_n hx hb dX11_digits_79 rfl (lv_at hl 2 rfl) ?_
                  refine lv_bipush (v := (10 : Int32)) hx hb dX11_digits_80 (by decide) ?_
                  refine lv_imul hx hb dX11_digits_82 ?_
                  refine lv_topi (fun x_27 ex_27 => ?_)
                  have hw := hw x_27 ex_27
                  refine lv_istore_n (i := 2) (lv' := [(2, .int x_27), (0, va_rf (some h0)), (1, .int x1), (3, .int x_15)]) hx hb dX11_digits_83 rfl hl (by decide) (by first | rfl | simp [List.filter_cons, z_cat, z_catI, z_catJ, z_catF, z_catD]) (fun ls hl => ?_)
                  obtain ⟨x_28, ex_28⟩ : ∃ y : Int32, y = x_15 + (1 : Int32) := ⟨_, rfl⟩
                  have hw := hw x_28 ex_28
                  refine lv_iinc (v := x_28) (lv' := [(3, .int x_28), (2, .int x_27), (0, va_rf (some h0)), (1, .int x1)]) hx hb dX11_digits_84 hl (k := 3) rfl (by rw [ex_28]; rfl) (by decide) (by first | rfl | simp [List.filter_cons, z_cat, z_catI, z_catJ, z_catF, z_catD]) (fun ls hl => ?_)
                  refine lv_goto (tgt := 69) hx hb dX11_digits_87 (by decide) ?_
                  obtain ⟨k_29, hlt, hw⟩ := hw
                  exact ih_69 k_29 hlt x_27 x_28 hp_16 nx_17 kc_18 ks_19 _ _ _ hw (lv_sub hl [2, 3, 1, 0] rfl) hH hz hS
          exact hL_69 n_30 x_1 x_2 hp_11 nx_12 kc_5 ks_6 _ _ _ hI hl hH hz hS
        · have hw := hw.1 hc
          refine zr_aload_n (r := some h0) hx hb dX11_digits_64 rfl (lv_at hl 0 rfl) ?_
          obtain ⟨c_31, s_32, hcl, hsl, hw⟩ := hw
          obtain ⟨a_39, ci_40, fs_41, er, he, hc, hw⟩ := zo_e hw
          obtain rfl := List.mem_singleton.mp hc
          refine zr_callq (zw_runV (As := []) hk hH hz hS hl.1 er hw (cwV 0 hts (lw_V q1446 q1448 qs25 q170 q1449) rfl rfl rfl (by decide +kernel) (z_room (Nat.le_of_ble_eq_true rfl))) he rfl rfl rfl (Nat.le_of_ble_eq_true rfl) dX11_digits_65 ⟨hcl, hsl⟩) hS (fun r_35 hp_33 nx_34 hw H locs hH hz hS => ?_)
          obtain ⟨a_36, ci_37, fs_38, er, he, hc, hkc, hks, hw⟩ := zo_e hw
          obtain rfl := List.mem_singleton.mp hc
          exact zy_athrow hk hH hz hS htb er he rfl hw hkc hks dX11_digits_68
      · have hw := hw.2 hc
        refine lv_iload_n hx hb dX11_digits_21 rfl (lv_at hl 3 rfl) ?_
        refine lv_iload_n hx hb dX11_digits_22 rfl (lv_at hl 1 rfl) ?_
        refine lv_icmp_ne (tgt := 31) hx hb dX11_digits_23 (by decide) (fun hc => ?_) (fun hc => ?_)
        · have hw := hw.2 hc
          refine lv_bipush (v := (10 : Int32)) hx hb dX11_digits_31 (by decide) ?_
          refine lv_iload_n hx hb dX11_digits_33 rfl (lv_at hl 2 rfl) ?_
          refine lv_imul hx hb dX11_digits_34 ?_
          refine zr_aload_n (r := some h0) hx hb dX11_digits_35 rfl (lv_at hl 0 rfl) ?_
          obtain ⟨hcl, hsl, hw⟩ := hw
          obtain ⟨a_56, ci_57, fs_58, er, he, hc, hw⟩ := zo_e hw
          obtain rfl := List.mem_singleton.mp hc
          refine zr_calli (zw_runV (As := []) hk hH hz hS hl.1 er hw (cwV 0 hts (lw_V q1397 q1399 qs21 q170 q1400) rfl rfl rfl (by decide +kernel) (z_room (Nat.le_of_ble_eq_true rfl))) he rfl rfl rfl (Nat.le_of_ble_eq_true rfl) dX11_digits_36 ⟨hcl, hsl⟩) hS (fun x_44 hp_42 nx_43 hw H locs hH hz hS => ?_)
          refine lv_iadd hx hb dX11_digits_39 ?_
          refine lv_bipush (v := (48 : Int32)) hx hb dX11_digits_40 (by decide) ?_
          refine lv_isub hx hb dX11_digits_42 ?_
          refine lv_topi (fun x_45 ex_45 => ?_)
          have hw := hw x_45 ex_45
          refine lv_istore_n (i := 2) (lv' := [(2, .int x_45), (0, va_rf (some h0)), (1, .int x1), (3, .int x_2)]) hx hb dX11_digits_43 rfl hl (by decide) (by first | rfl | simp [List.filter_cons, z_cat, z_catI, z_catJ, z_catF, z_catD]) (fun ls hl => ?_)
          obtain ⟨x_46, ex_46⟩ : ∃ y : Int32, y = x_2 + (1 : Int32) := ⟨_, rfl⟩
          have hw := hw x_46 ex_46
          refine lv_iinc (v := x_46) (lv' := [(3, .int x_46), (2, .int x_45), (0, va_rf (some h0)), (1, .int x1)]) hx hb dX11_digits_44 hl (k := 3) rfl (by rw [ex_46]; rfl) (by decide) (by first | rfl | simp [List.filter_cons, z_cat, z_catI, z_catJ, z_catF, z_catD]) (fun ls hl => ?_)
          refine zr_aload_n (r := some h0) hx hb dX11_digits_47 rfl (lv_at hl 2 rfl) ?_
          refine lv_dup hx hb dX11_digits_48 (z_cat _) ?_
          obtain ⟨a_47, ci_48, fs_49, x_50, er, he, hc, hv, hw⟩ := zgI_e hw
          refine zw_get hk hH er he hv (fk_X11_38 hc) dX11_digits_49 ?_
          refine lv_iconst (v := (1 : Int32)) hx hb dX11_digits_52 (by decide) ?_
          refine lv_iadd hx hb dX11_digits_53 ?_
          obtain ⟨a_51, ci_52, fs_53, hp_54, er, he, hc, hA, hkl, eh, hw⟩ := zpt_e hw
          refine zw_put hk hH hz hS er he hA hkl eh (fp_X11_38 hc) rfl rfl dX11_digits_54 (fun H locs hH hz hS => ?_)
          refine lv_goto (tgt := 4) hx hb dX11_digits_57 (by decide) ?_
          obtain ⟨k_55, hlt, hw⟩ := hw
          exact ih_4 k_55 hlt x_45 x_46 hp_54 nx_43 kc_5 ks_6 _ _ _ hw (lv_sub hl [2, 3, 1, 0] rfl) hH hz hS
        · have hw := hw.1 hc
          refine zr_aload_n (r := some h0) hx hb dX11_digits_26 rfl (lv_at hl 0 rfl) ?_
          obtain ⟨c_59, s_60, hcl, hsl, hw⟩ := hw
          obtain ⟨a_67, ci_68, fs_69, er, he, hc, hw⟩ := zo_e hw
          obtain rfl := List.mem_singleton.mp hc
          refine zr_callq (zw_runV (As := []) hk hH hz hS hl.1 er hw (cwV 0 hts (lw_V q1446 q1448 qs25 q170 q1449) rfl rfl rfl (by decide +kernel) (z_room (Nat.le_of_ble_eq_true rfl))) he rfl rfl rfl (Nat.le_of_ble_eq_true rfl) dX11_digits_27 ⟨hcl, hsl⟩) hS (fun r_63 hp_61 nx_62 hw H locs hH hz hS => ?_)
          obtain ⟨a_64, ci_65, fs_66, er, he, hc, hkc, hks, hw⟩ := zo_e hw
          obtain rfl := List.mem_singleton.mp hc
          exact zy_athrow hk hH hz hS htb er he rfl hw hkc hks dX11_digits_30
  exact hL_4 n_73 (0 : Int32) (0 : Int32) hp nx 0 0 _ _ _ hI (lv_sub hl [2, 3, 1, 0] rfl) hH hz hS
theorem no_X11_31 : zNo "WhatIfSheet$Reader" 31 12 := ⟨RX12, TX12, 7, rfl, q1450, q1451, q174⟩
theorem fk_X11_33 {ci : Nat} (h : ci ∈ [11]) : zFk "WhatIfSheet$Reader" 33 ci 1 := by
  simp only [List.mem_cons, List.not_mem_nil, or_false] at h
  rcases h with rfl
  · exact ⟨RX11, TX11, 10, rfl, by decide, q1359⟩
def wp_X11_fault (l : Launch) (g : zG) (d : Nat) (mc ms : Nat) (h0 : Nat) (hp : zHp) (nx : Nat) (Post : Option Nat → zHp → Nat → Prop) : Prop :=
  (znw g mc ms hp nx 0 0 12 fun hp_1 =>
  ∀ nx_2 kc_3 ks_4 : Nat, nx_2 = (nx + 1) → kc_3 = (0 + 1) → ks_4 = (0 + zNn 12) →
  (zgI hp_1 (some h0) [11] 1 fun x_8 =>
  (∃ c_9 s_10 : Nat, kc_3 + c_9 ≤ mc ∧ ks_4 + s_10 ≤ ms ∧ zMt l g yX12_init cX12_init 2 none d c_9 s_10 (.ref nx :: [.int x_8]) hp_1 nx_2 (zQv g fun hp_11 nx_12 =>
  ((kc_3 + c_9) ≤ mc ∧ (ks_4 + s_10) ≤ ms ∧ Post (some nx) hp_11 nx_12)))))
set_option maxHeartbeats 40000000 in
theorem met_X11_fault {l : Launch} {g : zG} {d : Nat} {mc ms : Nat} {h0 : Nat} {hp : zHp} {nx : Nat} {Post : Option Nat → zHp → Nat → Prop} (hw : wp_X11_fault l g d mc ms h0 hp nx Post) : zMt l g yX11_fault cX11_fault 1 (some (.object "WhatIfSheet$Fault")) (d + 1) mc ms [.ref h0] hp nx (zQq g Post) := by
  refine z_start (by decide) (Nat.le_of_ble_eq_true rfl) ?_
  intro p e s m below meth c hk hr hin hH hz ls hl
  have hx := hk.1.1
  have hb := hk.1.2.1
  have hown := hk.1.2.2.2.1
  have hts := hk.1.2.2.2.2
  have hS : va_S (zAd g) s.heap s.heap [] := va_S.rf
  have hl : lv_has ls 1 [(0, va_rf (some h0))] := hl
  unfold wp_X11_fault at hw
  obtain ⟨hcl, hsl, hw⟩ := hw
  refine zx_new hk hH hz hS (ci := 12) no_X11_31 hcl hsl dX11_fault_0 (fun H hH hz hS hlt hnb => ?_)
  have hw := hw hlt hnb
  generalize va_up hp nx _ = hp_1 at hH hw
  obtain ⟨kc_3, ekc⟩ : ∃ k, k = (0 + 1) := ⟨_, rfl⟩
  obtain ⟨ks_4, eks⟩ : ∃ k, k = (0 + zNn 12) := ⟨_, rfl⟩
  have hw := hw _ _ _ rfl ekc eks
  refine W.widen (Nat.le_of_eq ekc.symm) (Nat.le_of_eq eks.symm) ?_
  clear ekc eks
  generalize (nx + 1) = nx_2 at hz hw
  refine lv_dup hx hb dX11_fault_3 (z_cat _) ?_
  refine zr_aload_n (r := some h0) hx hb dX11_fault_4 rfl (lv_at hl 0 rfl) ?_
  obtain ⟨a_5, ci_6, fs_7, x_8, er, he, hc, hv, hw⟩ := zgI_e hw
  refine zw_get hk hH er he hv (fk_X11_33 hc) dX11_fault_5 ?_
  obtain ⟨c_9, s_10, hcl, hsl, hw⟩ := hw
  refine zr_callv (zw_runI (As := [.int x_8]) (r := some nx) hk hH hz hS hl.1 rfl hw (cwI 1 hts (lw_meth q1461) rfl rfl rfl (hts _ q174) (hts _ q1459) (hts _ q1460) rfl (by decide +kernel) (z_room (Nat.le_of_ble_eq_true rfl))) rfl rfl (by simp only [List.map_cons, List.map_nil, z_cat]; exact Nat.le_of_ble_eq_true rfl) dX11_fault_8 ⟨hcl, hsl⟩) hS (fun hp_11 nx_12 hw H locs hH hz hS => ?_)
  obtain ⟨hkc, hks, hw⟩ := hw
  exact zr_aret (r := some nx) hk hr (Or.inl ⟨_, rfl⟩) hH hz hS hw hkc hks dX11_fault_11
theorem no_X11_258 : zNo "WhatIfSheet$Reader" 258 29 := ⟨RX29, TX29, 6, rfl, q1918, q1919, q193⟩
def wp_X11_even (l : Launch) (g : zG) (d : Nat) (mc ms : Nat) (h0 : Nat) (hp : zHp) (nx : Nat) (Post : Option Nat → zHp → Nat → Prop) (PostX : Nat → zHp → Nat → Prop) : Prop :=
  (∃ c_1 s_2 : Nat, 0 + c_1 ≤ mc ∧ 0 + s_2 ≤ ms ∧ zo hp (some h0) [11] fun a_66 ci_67 fs_68 => zMx l g yX11_sum cX11_sum 4 (some (.object "WhatIfSheet$Node")) d c_1 s_2 (.ref a_66 :: []) hp nx (zQq g fun r_5 hp_3 nx_4 =>
  (zgI hp_3 (some h0) [11] 5 fun x_9 =>
  (∃ P_25 : (Option Nat) → zHp → Nat → Nat → Nat → Prop, (∀ (r_10 : Option Nat) (hp_11 : zHp) (nx_12 : Nat) (kc_13 : Nat) (ks_14 : Nat), P_25 r_10 hp_11 nx_12 kc_13 ks_14 →
  (zgI hp_11 (some h0) [11] 5 fun x_18 =>
  (∃ P_39 : (Option Nat) → Int32 → zHp → Nat → Nat → Nat → Prop, (∀ (r_19 : Option Nat) (x_20 : Int32) (hp_21 : zHp) (nx_22 : Nat) (kc_23 : Nat) (ks_24 : Nat), P_39 r_19 x_20 hp_21 nx_22 kc_23 ks_24 →
  (∃ c_25 s_26 : Nat, kc_23 + c_25 ≤ mc ∧ ks_24 + s_26 ≤ ms ∧ zo hp_21 (some h0) [11] fun a_56 ci_57 fs_58 => zMx l g yX11_next cX11_next 1 none d c_25 s_26 (.ref a_56 :: []) hp_21 nx_22 (zQv g fun hp_27 nx_28 =>
  (znw g mc ms hp_27 nx_28 (kc_23 + c_25) (ks_24 + s_26) 29 fun hp_29 =>
  ∀ nx_30 kc_31 ks_32 : Nat, nx_30 = (nx_28 + 1) → kc_31 = ((kc_23 + c_25) + 1) → ks_32 = ((ks_24 + s_26) + zNn 29) →
  (zgR hp_29 (some h0) [11] 9 fun r_36 =>
  (∃ c_37 s_38 : Nat, kc_31 + c_37 ≤ mc ∧ ks_32 + s_38 ≤ ms ∧ zo hp_29 (some h0) [11] fun a_50 ci_51 fs_52 => zMx l g yX11_sum cX11_sum 4 (some (.object "WhatIfSheet$Node")) d c_37 s_38 (.ref a_50 :: []) hp_29 nx_30 (zQq g fun r_41 hp_39 nx_40 =>
  ((kc_31 + c_37) ≤ mc ∧ (ks_32 + s_38) ≤ ms ∧ zMt l g yX29_init cX29_init 5 none d 0 0 (.ref nx_28 :: [va_rf r_36, .int x_20, va_rf r_19, va_rf r_41]) hp_39 nx_40 (zQv g fun hp_42 nx_43 =>
  ((kc_31 + c_37) ≤ mc ∧ (ks_32 + s_38) ≤ ms ∧ Post (some nx_28) hp_42 nx_43)))) "WhatIfSheet$Fault" (fun q_47 hp_48 nx_49 => (kc_31 + c_37) ≤ mc ∧ (ks_32 + s_38) ≤ ms ∧ PostX q_47 hp_48 nx_49))))) "WhatIfSheet$Fault" (fun q_53 hp_54 nx_55 => (kc_23 + c_25) ≤ mc ∧ (ks_24 + s_26) ≤ ms ∧ PostX q_53 hp_54 nx_55))) ∧
  ((x_18 = (60 : Int32) →
  P_39 r_10 (1 : Int32) hp_11 nx_12 kc_13 ks_14) ∧
  (¬ x_18 = (60 : Int32) →
  P_39 r_10 (0 : Int32) hp_11 nx_12 kc_13 ks_14))))) ∧
  ((x_9 = (60 : Int32) →
  P_25 r_5 hp_3 nx_4 (0 + c_1) (0 + s_2)) ∧
  (¬ x_9 = (60 : Int32) →
  (zgI hp_3 (some h0) [11] 5 fun x_62 =>
  ((x_62 = (61 : Int32) →
  P_25 r_5 hp_3 nx_4 (0 + c_1) (0 + s_2)) ∧
  (¬ x_62 = (61 : Int32) →
  ((0 + c_1) ≤ mc ∧ (0 + s_2) ≤ ms ∧ Post r_5 hp_3 nx_4))))))))) "WhatIfSheet$Fault" (fun q_63 hp_64 nx_65 => (0 + c_1) ≤ mc ∧ (0 + s_2) ≤ ms ∧ PostX q_63 hp_64 nx_65))
set_option maxHeartbeats 40000000 in
theorem met_X11_even {l : Launch} {g : zG} {d : Nat} {mc ms : Nat} {h0 : Nat} {hp : zHp} {nx : Nat} {Post : Option Nat → zHp → Nat → Prop} {PostX : Nat → zHp → Nat → Prop} (hw : wp_X11_even l g d mc ms h0 hp nx Post PostX) : zMx l g yX11_even cX11_even 3 (some (.object "WhatIfSheet$Node")) (d + 1) mc ms [.ref h0] hp nx (zQq g Post) "WhatIfSheet$Fault" PostX := by
  refine zy_start (by decide) (Nat.le_of_ble_eq_true rfl) ?_
  intro p e s m below meth c hk hr hin htb hH hz ls hl
  have hx := hk.1.1
  have hb := hk.1.2.1
  have hown := hk.1.2.2.2.1
  have hts := hk.1.2.2.2.2
  have hS : va_S (zAd g) s.heap s.heap [] := va_S.rf
  have hl : lv_has ls 3 [(0, va_rf (some h0))] := hl
  unfold wp_X11_even at hw
  refine zr_aload_n (r := some h0) hx hb dX11_even_0 rfl (lv_at hl 0 rfl) ?_
  obtain ⟨c_1, s_2, hcl, hsl, hw⟩ := hw
  obtain ⟨a_66, ci_67, fs_68, er, he, hc, hw⟩ := zo_e hw
  obtain rfl := List.mem_singleton.mp hc
  refine zy_callq (zy_runV (As := []) hk hH hz hS hl.1 er hw (cwV 0 hts (lw_V q1527 q1529 qs27 q170 q1530) rfl rfl rfl (by decide +kernel) (z_room (Nat.le_of_ble_eq_true rfl))) he rfl rfl rfl (Nat.le_of_ble_eq_true rfl) dX11_even_1 ⟨hcl, hsl⟩) hS ?_ (fun r_5 hp_3 nx_4 hw H locs hH hz hS => ?_)
  · intro q_63 hp_64 nx_65 hw H locs hH hz hS hq
    obtain ⟨hkc, hks, hw⟩ := hw
    exact zy_out hk hH hz hS htb hq hw hkc hks
  · refine zr_astore_n (r := r_5) (i := 1) (lv' := [(1, va_rf r_5), (0, va_rf (some h0))]) hx hb dX11_even_4 rfl hl (by decide) (by first | rfl | simp [List.filter_cons, z_cat, z_catI, z_catJ, z_catF, z_catD]) (fun ls hl => ?_)
    refine zr_aload_n (r := some h0) hx hb dX11_even_5 rfl (lv_at hl 1 rfl) ?_
    obtain ⟨a_6, ci_7, fs_8, x_9, er, he, hc, hv, hw⟩ := zgI_e hw
    refine zw_get hk hH er he hv (fk_X11_59 hc) dX11_even_6 ?_
    refine lv_bipush (v := (60 : Int32)) hx hb dX11_even_9 (by decide) ?_
    obtain ⟨P_25, hP_25, hw⟩ := hw
    have hJ_25 : ∀ (r_10 : Option Nat) (hp_11 : zHp) (nx_12 : Nat) (kc_13 : Nat) (ks_14 : Nat) (H : Heap) (locs : List Loc) (ls : Array Slot), P_25 r_10 hp_11 nx_12 kc_13 ks_14 → lv_has ls 3 [(0, va_rf (some h0)), (1, va_rf r_10)] → zHd g hp_11 H → H.size = nx_12 → va_S (zAd g) s.heap H locs → W p l e (zrm (d + 1) mc ms) s m ([.ref h0] : List Value).toArray below meth c H locs kc_13 ks_14 (vy_MQ below (zQq g Post) (zXC g "WhatIfSheet$Fault" PostX) ([.ref h0] : List Value).toArray s mc ms (zAd g)) (F0 m 25 ls []) := by
      intro r_10 hp_11 nx_12 kc_13 ks_14 H locs ls hw hl hH hz hS
      have hw := hP_25 r_10 hp_11 nx_12 kc_13 ks_14 hw
      refine zr_aload_n (r := some h0) hx hb dX11_even_25 rfl (lv_at hl 0 rfl) ?_
      obtain ⟨a_15, ci_16, fs_17, x_18, er, he, hc, hv, hw⟩ := zgI_e hw
      refine zw_get hk hH er he hv (fk_X11_59 hc) dX11_even_26 ?_
      refine lv_bipush (v := (60 : Int32)) hx hb dX11_even_29 (by decide) ?_
      obtain ⟨P_39, hP_39, hw⟩ := hw
      have hJ_39 : ∀ (r_19 : Option Nat) (x_20 : Int32) (hp_21 : zHp) (nx_22 : Nat) (kc_23 : Nat) (ks_24 : Nat) (H : Heap) (locs : List Loc) (ls : Array Slot), P_39 r_19 x_20 hp_21 nx_22 kc_23 ks_24 → lv_has ls 3 [(0, va_rf (some h0)), (1, va_rf r_19)] → zHd g hp_21 H → H.size = nx_22 → va_S (zAd g) s.heap H locs → W p l e (zrm (d + 1) mc ms) s m ([.ref h0] : List Value).toArray below meth c H locs kc_23 ks_24 (vy_MQ below (zQq g Post) (zXC g "WhatIfSheet$Fault" PostX) ([.ref h0] : List Value).toArray s mc ms (zAd g)) (F0 m 39 ls [.int x_20]) := by
        intro r_19 x_20 hp_21 nx_22 kc_23 ks_24 H locs ls hw hl hH hz hS
        have hw := hP_39 r_19 x_20 hp_21 nx_22 kc_23 ks_24 hw
        refine lv_istore_n (i := 2) (lv' := [(2, .int x_20), (0, va_rf (some h0)), (1, va_rf r_19)]) hx hb dX11_even_39 rfl hl (by decide) (by first | rfl | simp [List.filter_cons, z_cat, z_catI, z_catJ, z_catF, z_catD]) (fun ls hl => ?_)
        refine zr_aload_n (r := some h0) hx hb dX11_even_40 rfl (lv_at hl 1 rfl) ?_
        obtain ⟨c_25, s_26, hcl, hsl, hw⟩ := hw
        obtain ⟨a_56, ci_57, fs_58, er, he, hc, hw⟩ := zo_e hw
        obtain rfl := List.mem_singleton.mp hc
        refine zy_callv (zy_runV (As := []) hk hH hz hS hl.1 er hw (cwV 0 hts (lw_V q1393 q1395 qs20 q170 q1396) rfl rfl rfl (by decide +kernel) (z_room (Nat.le_of_ble_eq_true rfl))) he rfl rfl rfl (Nat.le_of_ble_eq_true rfl) dX11_even_41 ⟨hcl, hsl⟩) hS ?_ (fun hp_27 nx_28 hw H locs hH hz hS => ?_)
        · intro q_53 hp_54 nx_55 hw H locs hH hz hS hq
          obtain ⟨hkc, hks, hw⟩ := hw
          exact zy_out hk hH hz hS htb hq hw hkc hks
        · obtain ⟨hcl, hsl, hw⟩ := hw
          refine zx_new hk hH hz hS (ci := 29) no_X11_258 hcl hsl dX11_even_44 (fun H hH hz hS hlt hnb => ?_)
          have hw := hw hlt hnb
          generalize va_up hp_27 nx_28 _ = hp_29 at hH hw
          obtain ⟨kc_31, ekc⟩ : ∃ k, k = ((kc_23 + c_25) + 1) := ⟨_, rfl⟩
          obtain ⟨ks_32, eks⟩ : ∃ k, k = ((ks_24 + s_26) + zNn 29) := ⟨_, rfl⟩
          have hw := hw _ _ _ rfl ekc eks
          refine W.widen (Nat.le_of_eq ekc.symm) (Nat.le_of_eq eks.symm) ?_
          clear ekc eks
          generalize (nx_28 + 1) = nx_30 at hz hw
          refine lv_dup hx hb dX11_even_47 (z_cat _) ?_
          refine zr_aload_n (r := some h0) hx hb dX11_even_48 rfl (lv_at hl 1 rfl) ?_
          obtain ⟨a_33, ci_34, fs_35, r_36, er, he, hc, hv, hw⟩ := zgR_e hw
          refine zw_get hk hH er he hv (fk_X11_3 hc) dX11_even_49 ?_
          refine lv_iload_n hx hb dX11_even_52 rfl (lv_at hl 0 rfl) ?_
          refine zr_aload_n (r := r_19) hx hb dX11_even_53 rfl (lv_at hl 2 rfl) ?_
          refine zr_aload_n (r := some h0) hx hb dX11_even_54 rfl (lv_at hl 1 rfl) ?_
          obtain ⟨c_37, s_38, hcl, hsl, hw⟩ := hw
          obtain ⟨a_50, ci_51, fs_52, er, he, hc, hw⟩ := zo_e hw
          obtain rfl := List.mem_singleton.mp hc
          refine zy_callq (zy_runV (As := []) hk hH hz hS hl.1 er hw (cwV 0 hts (lw_V q1527 q1529 qs27 q170 q1530) rfl rfl rfl (by decide +kernel) (z_room (Nat.le_of_ble_eq_true rfl))) he rfl rfl rfl (by simp only [List.map_cons, List.map_nil, z_cat]; exact Nat.le_of_ble_eq_true rfl) dX11_even_55 ⟨hcl, hsl⟩) hS ?_ (fun r_41 hp_39 nx_40 hw H locs hH hz hS => ?_)
          · intro q_47 hp_48 nx_49 hw H locs hH hz hS hq
            obtain ⟨hkc, hks, hw⟩ := hw
            exact zy_out hk hH hz hS htb hq hw hkc hks
          · obtain ⟨hcl, hsl, hw⟩ := hw
            refine zr_callv (zw_runI (As := [va_rf r_36, .int x_20, va_rf r_19, va_rf r_41]) (r := some nx_28) hk hH hz hS hl.1 rfl hw (cwI 4 hts (lw_meth q1922) rfl rfl rfl (hts _ q193) (hts _ q1920) (hts _ q1921) rfl (by decide +kernel) (z_room (Nat.le_of_ble_eq_true rfl))) rfl rfl (by simp only [List.map_cons, List.map_nil, z_cat]; exact Nat.le_of_ble_eq_true rfl) dX11_even_58 ⟨hcl, hsl⟩) hS (fun hp_42 nx_43 hw H locs hH hz hS => ?_)
            obtain ⟨hkc, hks, hw⟩ := hw
            exact vy_ret (zr_aret (r := some nx_28) hk hr (Or.inl ⟨_, rfl⟩) hH hz hS hw hkc hks dX11_even_61)
      refine lv_icmp_ne (tgt := 38) hx hb dX11_even_31 (by decide) (fun hc => ?_) (fun hc => ?_)
      · have hw := hw.2 hc
        refine lv_iconst (v := (0 : Int32)) hx hb dX11_even_38 (by decide) ?_
        exact hJ_39 r_10 (0 : Int32) hp_11 nx_12 kc_13 ks_14 _ _ _ hw hl hH hz hS
      · have hw := hw.1 hc
        refine lv_iconst (v := (1 : Int32)) hx hb dX11_even_34 (by decide) ?_
        refine lv_goto (tgt := 39) hx hb dX11_even_35 (by decide) ?_
        exact hJ_39 r_10 (1 : Int32) hp_11 nx_12 kc_13 ks_14 _ _ _ hw hl hH hz hS
    refine lv_icmp_eq (tgt := 25) hx hb dX11_even_11 (by decide) (fun hc => ?_) (fun hc => ?_)
    · have hw := hw.1 hc
      exact hJ_25 r_5 hp_3 nx_4 (0 + c_1) (0 + s_2) _ _ _ hw (lv_sub hl [1, 0] rfl) hH hz hS
    · have hw := hw.2 hc
      refine zr_aload_n (r := some h0) hx hb dX11_even_14 rfl (lv_at hl 1 rfl) ?_
      obtain ⟨a_59, ci_60, fs_61, x_62, er, he, hc, hv, hw⟩ := zgI_e hw
      refine zw_get hk hH er he hv (fk_X11_59 hc) dX11_even_15 ?_
      refine lv_bipush (v := (61 : Int32)) hx hb dX11_even_18 (by decide) ?_
      refine lv_icmp_eq (tgt := 25) hx hb dX11_even_20 (by decide) (fun hc => ?_) (fun hc => ?_)
      · have hw := hw.1 hc
        exact hJ_25 r_5 hp_3 nx_4 (0 + c_1) (0 + s_2) _ _ _ hw (lv_sub hl [1, 0] rfl) hH hz hS
      · have hw := hw.2 hc
        refine zr_aload_n (r := r_5) hx hb dX11_even_23 rfl (lv_at hl 0 rfl) ?_
        obtain ⟨hkc, hks, hw⟩ := hw
        exact vy_ret (zr_aret (r := r_5) hk hr (Or.inl ⟨_, rfl⟩) hH hz hS hw hkc hks dX11_even_24)
theorem no_X11_252 : zNo "WhatIfSheet$Reader" 252 26 := ⟨RX26, TX26, 5, rfl, q1908, q1909, q190⟩
def wp_X11_sum (l : Launch) (g : zG) (d : Nat) (mc ms : Nat) (h0 : Nat) (hp : zHp) (nx : Nat) (Post : Option Nat → zHp → Nat → Prop) (PostX : Nat → zHp → Nat → Prop) : Prop :=
  (∃ c_1 s_2 : Nat, 0 + c_1 ≤ mc ∧ 0 + s_2 ≤ ms ∧ zo hp (some h0) [11] fun a_92 ci_93 fs_94 => zMx l g yX11_term cX11_term 4 (some (.object "WhatIfSheet$Node")) d c_1 s_2 (.ref a_92 :: []) hp nx (zQq g fun r_5 hp_3 nx_4 =>
  (∃ I_7 : Nat → (Option Nat) → (Option Nat) → zHp → Nat → Nat → Nat → Prop, (∃ n_88, I_7 n_88 r_5 none hp_3 nx_4 (0 + c_1) (0 + s_2)) ∧ ∀ (n_12 : Nat) (r_6 : Option Nat) (r_7 : Option Nat) (hp_8 : zHp) (nx_9 : Nat) (kc_10 : Nat) (ks_11 : Nat), I_7 n_12 r_6 r_7 hp_8 nx_9 kc_10 ks_11 →
  (zgI hp_8 (some h0) [11] 5 fun x_16 =>
  (∃ P_25 : (Option Nat) → (Option Nat) → zHp → Nat → Nat → Nat → Prop, (∀ (r_17 : Option Nat) (r_18 : Option Nat) (hp_19 : zHp) (nx_20 : Nat) (kc_21 : Nat) (ks_22 : Nat), P_25 r_17 r_18 hp_19 nx_20 kc_21 ks_22 →
  (zgI hp_19 (some h0) [11] 5 fun x_26 =>
  (∃ c_27 s_28 : Nat, kc_21 + c_27 ≤ mc ∧ ks_22 + s_28 ≤ ms ∧ zo hp_19 (some h0) [11] fun a_74 ci_75 fs_76 => zMx l g yX11_next cX11_next 1 none d c_27 s_28 (.ref a_74 :: []) hp_19 nx_20 (zQv g fun hp_29 nx_30 =>
  (∃ P_51 : (Option Nat) → (Option Nat) → Int32 → zHp → Nat → Nat → Nat → Prop, (∀ (r_31 : Option Nat) (r_32 : Option Nat) (x_33 : Int32) (hp_34 : zHp) (nx_35 : Nat) (kc_36 : Nat) (ks_37 : Nat), P_51 r_31 r_32 x_33 hp_34 nx_35 kc_36 ks_37 →
  (∃ c_38 s_39 : Nat, kc_36 + c_38 ≤ mc ∧ ks_37 + s_39 ≤ ms ∧ zo hp_34 (some h0) [11] fun a_55 ci_56 fs_57 => zMx l g yX11_term cX11_term 4 (some (.object "WhatIfSheet$Node")) d c_38 s_39 (.ref a_55 :: []) hp_34 nx_35 (zQq g fun r_42 hp_40 nx_41 =>
  (∃ c_43 s_44 : Nat, (kc_36 + c_38) + c_43 ≤ mc ∧ (ks_37 + s_39) + s_44 ≤ ms ∧ zo hp_40 r_32 [26, 27] fun a_48 ci_49 fs_50 => ∃ PP_51 : zHp → Nat → Prop, (∀ (hp_45 : zHp) (nx_46 : Nat), PP_51 hp_45 nx_46 →
  (∃ k_47, k_47 < n_12 ∧ I_7 k_47 r_31 r_32 hp_45 nx_46 ((kc_36 + c_38) + c_43) ((ks_37 + s_39) + s_44))) ∧ zMt l g yX26_more cX26_more 4 none d c_43 s_44 (.ref a_48 :: [.int x_33, va_rf r_42]) hp_40 nx_41 (zQv g PP_51))) "WhatIfSheet$Fault" (fun q_52 hp_53 nx_54 => (kc_36 + c_38) ≤ mc ∧ (ks_37 + s_39) ≤ ms ∧ PostX q_52 hp_53 nx_54))) ∧
  ((r_18 = none →
  (znw g mc ms hp_29 nx_30 (kc_21 + c_27) (ks_22 + s_28) 26 fun hp_58 =>
  ∀ nx_59 kc_60 ks_61 : Nat, nx_59 = (nx_30 + 1) → kc_60 = ((kc_21 + c_27) + 1) → ks_61 = ((ks_22 + s_28) + zNn 26) →
  (zgR hp_58 (some h0) [11] 9 fun r_65 =>
  (kc_60 ≤ mc ∧ ks_61 ≤ ms ∧ zMt l g yX26_init cX26_init 3 none d 0 0 (.ref nx_30 :: [va_rf r_65, va_rf r_17]) hp_58 nx_59 (zQv g fun hp_66 nx_67 =>
  P_51 r_17 (some nx_30) x_26 hp_66 nx_67 kc_60 ks_61))))) ∧
  (¬ r_18 = none →
  P_51 r_17 r_18 x_26 hp_29 nx_30 (kc_21 + c_27) (ks_22 + s_28))))) "WhatIfSheet$Fault" (fun q_71 hp_72 nx_73 => (kc_21 + c_27) ≤ mc ∧ (ks_22 + s_28) ≤ ms ∧ PostX q_71 hp_72 nx_73)))) ∧
  ((x_16 = (43 : Int32) →
  P_25 r_6 r_7 hp_8 nx_9 kc_10 ks_11) ∧
  (¬ x_16 = (43 : Int32) →
  (zgI hp_8 (some h0) [11] 5 fun x_80 =>
  ((x_80 = (45 : Int32) →
  P_25 r_6 r_7 hp_8 nx_9 kc_10 ks_11) ∧
  (¬ x_80 = (45 : Int32) →
  (∃ P_72 : (Option Nat) → (Option Nat) → (Option Nat) → zHp → Nat → Nat → Nat → Prop, (∀ (r_81 : Option Nat) (r_82 : Option Nat) (r_83 : Option Nat) (hp_84 : zHp) (nx_85 : Nat) (kc_86 : Nat) (ks_87 : Nat), P_72 r_81 r_82 r_83 hp_84 nx_85 kc_86 ks_87 →
  (kc_86 ≤ mc ∧ ks_87 ≤ ms ∧ Post r_83 hp_84 nx_85)) ∧
  ((r_7 = none →
  P_72 r_6 r_7 r_6 hp_8 nx_9 kc_10 ks_11) ∧
  (¬ r_7 = none →
  P_72 r_6 r_7 r_7 hp_8 nx_9 kc_10 ks_11)))))))))))) "WhatIfSheet$Fault" (fun q_89 hp_90 nx_91 => (0 + c_1) ≤ mc ∧ (0 + s_2) ≤ ms ∧ PostX q_89 hp_90 nx_91))
set_option maxHeartbeats 40000000 in
theorem met_X11_sum {l : Launch} {g : zG} {d : Nat} {mc ms : Nat} {h0 : Nat} {hp : zHp} {nx : Nat} {Post : Option Nat → zHp → Nat → Prop} {PostX : Nat → zHp → Nat → Prop} (hw : wp_X11_sum l g d mc ms h0 hp nx Post PostX) : zMx l g yX11_sum cX11_sum 4 (some (.object "WhatIfSheet$Node")) (d + 1) mc ms [.ref h0] hp nx (zQq g Post) "WhatIfSheet$Fault" PostX := by
  refine zy_start (by decide) (Nat.le_of_ble_eq_true rfl) ?_
  intro p e s m below meth c hk hr hin htb hH hz ls hl
  have hx := hk.1.1
  have hb := hk.1.2.1
  have hown := hk.1.2.2.2.1
  have hts := hk.1.2.2.2.2
  have hS : va_S (zAd g) s.heap s.heap [] := va_S.rf
  have hl : lv_has ls 4 [(0, va_rf (some h0))] := hl
  unfold wp_X11_sum at hw
  refine zr_aload_n (r := some h0) hx hb dX11_sum_0 rfl (lv_at hl 0 rfl) ?_
  obtain ⟨c_1, s_2, hcl, hsl, hw⟩ := hw
  obtain ⟨a_92, ci_93, fs_94, er, he, hc, hw⟩ := zo_e hw
  obtain rfl := List.mem_singleton.mp hc
  refine zy_callq (zy_runV (As := []) hk hH hz hS hl.1 er hw (cwV 0 hts (lw_V q1531 q1533 qs28 q170 q1534) rfl rfl rfl (by decide +kernel) (z_room (Nat.le_of_ble_eq_true rfl))) he rfl rfl rfl (Nat.le_of_ble_eq_true rfl) dX11_sum_1 ⟨hcl, hsl⟩) hS ?_ (fun r_5 hp_3 nx_4 hw H locs hH hz hS => ?_)
  · intro q_89 hp_90 nx_91 hw H locs hH hz hS hq
    obtain ⟨hkc, hks, hw⟩ := hw
    exact zy_out hk hH hz hS htb hq hw hkc hks
  · refine zr_astore_n (r := r_5) (i := 1) (lv' := [(1, va_rf r_5), (0, va_rf (some h0))]) hx hb dX11_sum_4 rfl hl (by decide) (by first | rfl | simp [List.filter_cons, z_cat, z_catI, z_catJ, z_catF, z_catD]) (fun ls hl => ?_)
    refine zx_null hx hb dX11_sum_5 ?_
    refine zr_astore_n (r := none) (i := 2) (lv' := [(2, va_rf none), (1, va_rf r_5), (0, va_rf (some h0))]) hx hb dX11_sum_6 rfl hl (by decide) (by first | rfl | simp [List.filter_cons, z_cat, z_catI, z_catJ, z_catF, z_catD]) (fun ls hl => ?_)
    obtain ⟨I_7, ⟨n_88, hI⟩, hB_7⟩ := hw
    have hL_7 : ∀ (n_12 : Nat) (r_6 : Option Nat) (r_7 : Option Nat) (hp_8 : zHp) (nx_9 : Nat) (kc_10 : Nat) (ks_11 : Nat) (H : Heap) (locs : List Loc) (ls : Array Slot), I_7 n_12 r_6 r_7 hp_8 nx_9 kc_10 ks_11 → lv_has ls 4 [(0, va_rf (some h0)), (1, va_rf r_6), (2, va_rf r_7)] → zHd g hp_8 H → H.size = nx_9 → va_S (zAd g) s.heap H locs → W p l e (zrm (d + 1) mc ms) s m ([.ref h0] : List Value).toArray below meth c H locs kc_10 ks_11 (vy_MQ below (zQq g Post) (zXC g "WhatIfSheet$Fault" PostX) ([.ref h0] : List Value).toArray s mc ms (zAd g)) (F0 m 7 ls []) := by
      intro n_12
      induction n_12 using Nat.strongRecOn with
      | _ n_12 ih_7 =>
        intro r_6 r_7 hp_8 nx_9 kc_10 ks_11 H locs ls hw hl hH hz hS
        have hw := hB_7 n_12 r_6 r_7 hp_8 nx_9 kc_10 ks_11 hw
        refine zr_aload_n (r := some h0) hx hb dX11_sum_7 rfl (lv_at hl 0 rfl) ?_
        obtain ⟨a_13, ci_14, fs_15, x_16, er, he, hc, hv, hw⟩ := zgI_e hw
        refine zw_get hk hH er he hv (fk_X11_59 hc) dX11_sum_8 ?_
        refine lv_bipush (v := (43 : Int32)) hx hb dX11_sum_11 (by decide) ?_
        obtain ⟨P_25, hP_25, hw⟩ := hw
        have hJ_25 : ∀ (r_17 : Option Nat) (r_18 : Option Nat) (hp_19 : zHp) (nx_20 : Nat) (kc_21 : Nat) (ks_22 : Nat) (H : Heap) (locs : List Loc) (ls : Array Slot), P_25 r_17 r_18 hp_19 nx_20 kc_21 ks_22 → lv_has ls 4 [(0, va_rf (some h0)), (1, va_rf r_17), (2, va_rf r_18)] → zHd g hp_19 H → H.size = nx_20 → va_S (zAd g) s.heap H locs → W p l e (zrm (d + 1) mc ms) s m ([.ref h0] : List Value).toArray below meth c H locs kc_21 ks_22 (vy_MQ below (zQq g Post) (zXC g "WhatIfSheet$Fault" PostX) ([.ref h0] : List Value).toArray s mc ms (zAd g)) (F0 m 25 ls []) := by
          intro r_17 r_18 hp_19 nx_20 kc_21 ks_22 H locs ls hw hl hH hz hS
          have hw := hP_25 r_17 r_18 hp_19 nx_20 kc_21 ks_22 hw
          refine zr_aload_n (r := some h0) hx hb dX11_sum_25 rfl (lv_at hl 0 rfl) ?_
          obtain ⟨a_23, ci_24, fs_25, x_26, er, he, hc, hv, hw⟩ := zgI_e hw
          refine zw_get hk hH er he hv (fk_X11_59 hc) dX11_sum_26 ?_
          refine lv_istore_n (i := 3) (lv' := [(3, .int x_26), (0, va_rf (some h0)), (1, va_rf r_17), (2, va_rf r_18)]) hx hb dX11_sum_29 rfl hl (by decide) (by first | rfl | simp [List.filter_cons, z_cat, z_catI, z_catJ, z_catF, z_catD]) (fun ls hl => ?_)
          refine zr_aload_n (r := some h0) hx hb dX11_sum_30 rfl (lv_at hl 1 rfl) ?_
          obtain ⟨c_27, s_28, hcl, hsl, hw⟩ := hw
          obtain ⟨a_74, ci_75, fs_76, er, he, hc, hw⟩ := zo_e hw
          obtain rfl := List.mem_singleton.mp hc
          refine zy_callv (zy_runV (As := []) hk hH hz hS hl.1 er hw (cwV 0 hts (lw_V q1393 q1395 qs20 q170 q1396) rfl rfl rfl (by decide +kernel) (z_room (Nat.le_of_ble_eq_true rfl))) he rfl rfl rfl (Nat.le_of_ble_eq_true rfl) dX11_sum_31 ⟨hcl, hsl⟩) hS ?_ (fun hp_29 nx_30 hw H locs hH hz hS => ?_)
          · intro q_71 hp_72 nx_73 hw H locs hH hz hS hq
            obtain ⟨hkc, hks, hw⟩ := hw
            exact zy_out hk hH hz hS htb hq hw hkc hks
          · refine zr_aload_n (r := r_18) hx hb dX11_sum_34 rfl (lv_at hl 3 rfl) ?_
            obtain ⟨P_51, hP_51, hw⟩ := hw
            have hJ_51 : ∀ (r_31 : Option Nat) (r_32 : Option Nat) (x_33 : Int32) (hp_34 : zHp) (nx_35 : Nat) (kc_36 : Nat) (ks_37 : Nat) (H : Heap) (locs : List Loc) (ls : Array Slot), P_51 r_31 r_32 x_33 hp_34 nx_35 kc_36 ks_37 → lv_has ls 4 [(0, va_rf (some h0)), (1, va_rf r_31), (2, va_rf r_32), (3, .int x_33)] → zHd g hp_34 H → H.size = nx_35 → va_S (zAd g) s.heap H locs → W p l e (zrm (d + 1) mc ms) s m ([.ref h0] : List Value).toArray below meth c H locs kc_36 ks_37 (vy_MQ below (zQq g Post) (zXC g "WhatIfSheet$Fault" PostX) ([.ref h0] : List Value).toArray s mc ms (zAd g)) (F0 m 51 ls []) := by
              intro r_31 r_32 x_33 hp_34 nx_35 kc_36 ks_37 H locs ls hw hl hH hz hS
              have hw := hP_51 r_31 r_32 x_33 hp_34 nx_35 kc_36 ks_37 hw
              refine zr_aload_n (r := r_32) hx hb dX11_sum_51 rfl (lv_at hl 2 rfl) ?_
              refine lv_iload_n hx hb dX11_sum_52 rfl (lv_at hl 3 rfl) ?_
              refine zr_aload_n (r := some h0) hx hb dX11_sum_53 rfl (lv_at hl 0 rfl) ?_
              obtain ⟨c_38, s_39, hcl, hsl, hw⟩ := hw
              obtain ⟨a_55, ci_56, fs_57, er, he, hc, hw⟩ := zo_e hw
              obtain rfl := List.mem_singleton.mp hc
              refine zy_callq (zy_runV (As := []) hk hH hz hS hl.1 er hw (cwV 0 hts (lw_V q1531 q1533 qs28 q170 q1534) rfl rfl rfl (by decide +kernel) (z_room (Nat.le_of_ble_eq_true rfl))) he rfl rfl rfl (by simp only [List.map_cons, List.map_nil, z_cat]; exact Nat.le_of_ble_eq_true rfl) dX11_sum_54 ⟨hcl, hsl⟩) hS ?_ (fun r_42 hp_40 nx_41 hw H locs hH hz hS => ?_)
              · intro q_52 hp_53 nx_54 hw H locs hH hz hS hq
                obtain ⟨hkc, hks, hw⟩ := hw
                exact zy_out hk hH hz hS htb hq hw hkc hks
              · obtain ⟨c_43, s_44, hcl, hsl, hw⟩ := hw
                obtain ⟨a_48, ci_49, fs_50, er, he, hc, PP_51, hPP, hw⟩ := zo_e hw
                have hC : ∀ (hp_45 : zHp) (nx_46 : Nat), PP_51 hp_45 nx_46 → ∀ (H : Heap) (locs : List Loc), zHd g hp_45 H → H.size = nx_46 → va_S (zAd g) s.heap H locs → W p l e (zrm (d + 1) mc ms) s m ([.ref h0] : List Value).toArray below meth c H locs ((kc_36 + c_38) + c_43) ((ks_37 + s_39) + s_44) (vy_MQ below (zQq g Post) (zXC g "WhatIfSheet$Fault" PostX) ([.ref h0] : List Value).toArray s mc ms (zAd g)) (F0 m 60 ls []) := by
                  intro hp_45 nx_46 hw H locs hH hz hS
                  have hw := hPP hp_45 nx_46 hw
                  refine lv_goto (tgt := 7) hx hb dX11_sum_60 (by decide) ?_
                  obtain ⟨k_47, hlt, hw⟩ := hw
                  exact ih_7 k_47 hlt r_31 r_32 hp_45 nx_46 ((kc_36 + c_38) + c_43) ((ks_37 + s_39) + s_44) _ _ _ hw (lv_sub hl [0, 1, 2] rfl) hH hz hS
                simp only [List.mem_cons, List.not_mem_nil, or_false] at hc
                rcases hc with rfl | rfl
                · exact zr_callv (zw_runV (As := [.int x_33, va_rf r_42]) hk hH hz hS hl.1 er (hw) (cwV 2 hts (lw_V q1917 q1888 q3360 q190 q1889) rfl rfl rfl (by decide +kernel) (z_room (Nat.le_of_ble_eq_true rfl))) he rfl rfl rfl (Nat.le_of_ble_eq_true rfl) dX11_sum_57 ⟨hcl, hsl⟩) hS hC
                · exact zr_callv (zw_runU (As := [.int x_33, va_rf r_42]) hk hH hz hS hl.1 er (hw) (va_cwU 2 hts (z_U q1917 q3359 q3361 q1888 q190 q1889) rfl rfl rfl rfl (by decide +kernel) (z_room (Nat.le_of_ble_eq_true rfl))) he rfl rfl rfl (Nat.le_of_ble_eq_true rfl) dX11_sum_57 ⟨hcl, hsl⟩) hS hC
            refine zr_ifnonnull (r := r_18) (tgt := 51) hx hb dX11_sum_35 (by decide) (fun hc => ?_) (fun hc => ?_)
            · have hw := hw.2 hc
              exact hJ_51 r_17 r_18 x_26 hp_29 nx_30 (kc_21 + c_27) (ks_22 + s_28) _ _ _ hw (lv_sub hl [1, 2, 3, 0] rfl) hH hz hS
            · have hw := hw.1 hc
              obtain ⟨hcl, hsl, hw⟩ := hw
              refine zx_new hk hH hz hS (ci := 26) no_X11_252 hcl hsl dX11_sum_38 (fun H hH hz hS hlt hnb => ?_)
              have hw := hw hlt hnb
              generalize va_up hp_29 nx_30 _ = hp_58 at hH hw
              obtain ⟨kc_60, ekc⟩ : ∃ k, k = ((kc_21 + c_27) + 1) := ⟨_, rfl⟩
              obtain ⟨ks_61, eks⟩ : ∃ k, k = ((ks_22 + s_28) + zNn 26) := ⟨_, rfl⟩
              have hw := hw _ _ _ rfl ekc eks
              refine W.widen (Nat.le_of_eq ekc.symm) (Nat.le_of_eq eks.symm) ?_
              clear ekc eks
              generalize (nx_30 + 1) = nx_59 at hz hw
              refine lv_dup hx hb dX11_sum_41 (z_cat _) ?_
              refine zr_aload_n (r := some h0) hx hb dX11_sum_42 rfl (lv_at hl 1 rfl) ?_
              obtain ⟨a_62, ci_63, fs_64, r_65, er, he, hc, hv, hw⟩ := zgR_e hw
              refine zw_get hk hH er he hv (fk_X11_3 hc) dX11_sum_43 ?_
              refine zr_aload_n (r := r_17) hx hb dX11_sum_46 rfl (lv_at hl 2 rfl) ?_
              obtain ⟨hcl, hsl, hw⟩ := hw
              refine zr_callv (zw_runI (As := [va_rf r_65, va_rf r_17]) (r := some nx_30) hk hH hz hS hl.1 rfl hw (cwI 2 hts (lw_meth q1865) rfl rfl rfl (hts _ q190) (hts _ q1910) (hts _ q1864) rfl (by decide +kernel) (z_room (Nat.le_of_ble_eq_true rfl))) rfl rfl (by simp only [List.map_cons, List.map_nil, z_cat]; exact Nat.le_of_ble_eq_true rfl) dX11_sum_47 ⟨hcl, hsl⟩) hS (fun hp_66 nx_67 hw H locs hH hz hS => ?_)
              refine zr_astore_n (r := some nx_30) (i := 2) (lv' := [(2, va_rf (some nx_30)), (3, .int x_26), (0, va_rf (some h0)), (1, va_rf r_17)]) hx hb dX11_sum_50 rfl hl (by decide) (by first | rfl | simp [List.filter_cons, z_cat, z_catI, z_catJ, z_catF, z_catD]) (fun ls hl => ?_)
              exact hJ_51 r_17 (some nx_30) x_26 hp_66 nx_67 kc_60 ks_61 _ _ _ hw (lv_sub hl [2, 3, 0, 1] rfl) hH hz hS
        refine lv_icmp_eq (tgt := 25) hx hb dX11_sum_13 (by decide) (fun hc => ?_) (fun hc => ?_)
        · have hw := hw.1 hc
          exact hJ_25 r_6 r_7 hp_8 nx_9 kc_10 ks_11 _ _ _ hw hl hH hz hS
        · have hw := hw.2 hc
          refine zr_aload_n (r := some h0) hx hb dX11_sum_16 rfl (lv_at hl 0 rfl) ?_
          obtain ⟨a_77, ci_78, fs_79, x_80, er, he, hc, hv, hw⟩ := zgI_e hw
          refine zw_get hk hH er he hv (fk_X11_59 hc) dX11_sum_17 ?_
          refine lv_bipush (v := (45 : Int32)) hx hb dX11_sum_20 (by decide) ?_
          refine lv_icmp_ne (tgt := 63) hx hb dX11_sum_22 (by decide) (fun hc => ?_) (fun hc => ?_)
          · have hw := hw.2 hc
            refine zr_aload_n (r := r_7) hx hb dX11_sum_63 rfl (lv_at hl 2 rfl) ?_
            obtain ⟨P_72, hP_72, hw⟩ := hw
            have hJ_72 : ∀ (r_81 : Option Nat) (r_82 : Option Nat) (r_83 : Option Nat) (hp_84 : zHp) (nx_85 : Nat) (kc_86 : Nat) (ks_87 : Nat) (H : Heap) (locs : List Loc) (ls : Array Slot), P_72 r_81 r_82 r_83 hp_84 nx_85 kc_86 ks_87 → lv_has ls 4 [(0, va_rf (some h0)), (1, va_rf r_81), (2, va_rf r_82)] → zHd g hp_84 H → H.size = nx_85 → va_S (zAd g) s.heap H locs → W p l e (zrm (d + 1) mc ms) s m ([.ref h0] : List Value).toArray below meth c H locs kc_86 ks_87 (vy_MQ below (zQq g Post) (zXC g "WhatIfSheet$Fault" PostX) ([.ref h0] : List Value).toArray s mc ms (zAd g)) (F0 m 72 ls [va_rf r_83]) := by
              intro r_81 r_82 r_83 hp_84 nx_85 kc_86 ks_87 H locs ls hw hl hH hz hS
              have hw := hP_72 r_81 r_82 r_83 hp_84 nx_85 kc_86 ks_87 hw
              obtain ⟨hkc, hks, hw⟩ := hw
              exact vy_ret (zr_aret (r := r_83) hk hr (Or.inl ⟨_, rfl⟩) hH hz hS hw hkc hks dX11_sum_72)
            refine zr_ifnonnull (r := r_7) (tgt := 71) hx hb dX11_sum_64 (by decide) (fun hc => ?_) (fun hc => ?_)
            · have hw := hw.2 hc
              refine zr_aload_n (r := r_7) hx hb dX11_sum_71 rfl (lv_at hl 2 rfl) ?_
              exact hJ_72 r_6 r_7 r_7 hp_8 nx_9 kc_10 ks_11 _ _ _ hw hl hH hz hS
            · have hw := hw.1 hc
              refine zr_aload_n (r := r_6) hx hb dX11_sum_67 rfl (lv_at hl 1 rfl) ?_
              refine lv_goto (tgt := 72) hx hb dX11_sum_68 (by decide) ?_
              exact hJ_72 r_6 r_7 r_6 hp_8 nx_9 kc_10 ks_11 _ _ _ hw hl hH hz hS
          · have hw := hw.1 hc
            exact hJ_25 r_6 r_7 hp_8 nx_9 kc_10 ks_11 _ _ _ hw hl hH hz hS
    exact hL_7 n_88 r_5 none hp_3 nx_4 (0 + c_1) (0 + s_2) _ _ _ hI (lv_sub hl [2, 1, 0] rfl) hH hz hS
theorem no_X11_242 : zNo "WhatIfSheet$Reader" 242 27 := ⟨RX27, TX27, 6, rfl, q1858, q1859, q191⟩
def wp_X11_term (l : Launch) (g : zG) (d : Nat) (mc ms : Nat) (h0 : Nat) (hp : zHp) (nx : Nat) (Post : Option Nat → zHp → Nat → Prop) (PostX : Nat → zHp → Nat → Prop) : Prop :=
  (∃ c_1 s_2 : Nat, 0 + c_1 ≤ mc ∧ 0 + s_2 ≤ ms ∧ zo hp (some h0) [11] fun a_95 ci_96 fs_97 => zMx l g yX11_one cX11_one 3 (some (.object "WhatIfSheet$Node")) d c_1 s_2 (.ref a_95 :: []) hp nx (zQq g fun r_5 hp_3 nx_4 =>
  (∃ I_7 : Nat → (Option Nat) → (Option Nat) → zHp → Nat → Nat → Nat → Prop, (∃ n_91, I_7 n_91 r_5 none hp_3 nx_4 (0 + c_1) (0 + s_2)) ∧ ∀ (n_12 : Nat) (r_6 : Option Nat) (r_7 : Option Nat) (hp_8 : zHp) (nx_9 : Nat) (kc_10 : Nat) (ks_11 : Nat), I_7 n_12 r_6 r_7 hp_8 nx_9 kc_10 ks_11 →
  (zgI hp_8 (some h0) [11] 5 fun x_16 =>
  (∃ P_34 : (Option Nat) → (Option Nat) → zHp → Nat → Nat → Nat → Prop, (∀ (r_17 : Option Nat) (r_18 : Option Nat) (hp_19 : zHp) (nx_20 : Nat) (kc_21 : Nat) (ks_22 : Nat), P_34 r_17 r_18 hp_19 nx_20 kc_21 ks_22 →
  (zgI hp_19 (some h0) [11] 5 fun x_26 =>
  (∃ c_27 s_28 : Nat, kc_21 + c_27 ≤ mc ∧ ks_22 + s_28 ≤ ms ∧ zo hp_19 (some h0) [11] fun a_73 ci_74 fs_75 => zMx l g yX11_next cX11_next 1 none d c_27 s_28 (.ref a_73 :: []) hp_19 nx_20 (zQv g fun hp_29 nx_30 =>
  (∃ P_60 : (Option Nat) → (Option Nat) → Int32 → zHp → Nat → Nat → Nat → Prop, (∀ (r_31 : Option Nat) (r_32 : Option Nat) (x_33 : Int32) (hp_34 : zHp) (nx_35 : Nat) (kc_36 : Nat) (ks_37 : Nat), P_60 r_31 r_32 x_33 hp_34 nx_35 kc_36 ks_37 →
  (∃ c_38 s_39 : Nat, kc_36 + c_38 ≤ mc ∧ ks_37 + s_39 ≤ ms ∧ zo hp_34 (some h0) [11] fun a_54 ci_55 fs_56 => zMx l g yX11_one cX11_one 3 (some (.object "WhatIfSheet$Node")) d c_38 s_39 (.ref a_54 :: []) hp_34 nx_35 (zQq g fun r_42 hp_40 nx_41 =>
  (∃ c_43 s_44 : Nat, (kc_36 + c_38) + c_43 ≤ mc ∧ (ks_37 + s_39) + s_44 ≤ ms ∧ zo hp_40 r_32 [27] fun a_48 ci_49 fs_50 => zMt l g yX26_more cX26_more 4 none d c_43 s_44 (.ref a_48 :: [.int x_33, va_rf r_42]) hp_40 nx_41 (zQv g fun hp_45 nx_46 =>
  (∃ k_47, k_47 < n_12 ∧ I_7 k_47 r_31 r_32 hp_45 nx_46 ((kc_36 + c_38) + c_43) ((ks_37 + s_39) + s_44))))) "WhatIfSheet$Fault" (fun q_51 hp_52 nx_53 => (kc_36 + c_38) ≤ mc ∧ (ks_37 + s_39) ≤ ms ∧ PostX q_51 hp_52 nx_53))) ∧
  ((r_18 = none →
  (znw g mc ms hp_29 nx_30 (kc_21 + c_27) (ks_22 + s_28) 27 fun hp_57 =>
  ∀ nx_58 kc_59 ks_60 : Nat, nx_58 = (nx_30 + 1) → kc_59 = ((kc_21 + c_27) + 1) → ks_60 = ((ks_22 + s_28) + zNn 27) →
  (zgR hp_57 (some h0) [11] 9 fun r_64 =>
  (kc_59 ≤ mc ∧ ks_60 ≤ ms ∧ zMt l g yX27_init cX27_init 3 none d 0 0 (.ref nx_30 :: [va_rf r_64, va_rf r_17]) hp_57 nx_58 (zQv g fun hp_65 nx_66 =>
  P_60 r_17 (some nx_30) x_26 hp_65 nx_66 kc_59 ks_60))))) ∧
  (¬ r_18 = none →
  P_60 r_17 r_18 x_26 hp_29 nx_30 (kc_21 + c_27) (ks_22 + s_28))))) "WhatIfSheet$Fault" (fun q_70 hp_71 nx_72 => (kc_21 + c_27) ≤ mc ∧ (ks_22 + s_28) ≤ ms ∧ PostX q_70 hp_71 nx_72)))) ∧
  ((x_16 = (42 : Int32) →
  P_34 r_6 r_7 hp_8 nx_9 kc_10 ks_11) ∧
  (¬ x_16 = (42 : Int32) →
  (zgI hp_8 (some h0) [11] 5 fun x_79 =>
  ((x_79 = (47 : Int32) →
  P_34 r_6 r_7 hp_8 nx_9 kc_10 ks_11) ∧
  (¬ x_79 = (47 : Int32) →
  (zgI hp_8 (some h0) [11] 5 fun x_83 =>
  ((x_83 = (37 : Int32) →
  P_34 r_6 r_7 hp_8 nx_9 kc_10 ks_11) ∧
  (¬ x_83 = (37 : Int32) →
  (∃ P_81 : (Option Nat) → (Option Nat) → (Option Nat) → zHp → Nat → Nat → Nat → Prop, (∀ (r_84 : Option Nat) (r_85 : Option Nat) (r_86 : Option Nat) (hp_87 : zHp) (nx_88 : Nat) (kc_89 : Nat) (ks_90 : Nat), P_81 r_84 r_85 r_86 hp_87 nx_88 kc_89 ks_90 →
  (kc_89 ≤ mc ∧ ks_90 ≤ ms ∧ Post r_86 hp_87 nx_88)) ∧
  ((r_7 = none →
  P_81 r_6 r_7 r_6 hp_8 nx_9 kc_10 ks_11) ∧
  (¬ r_7 = none →
  P_81 r_6 r_7 r_7 hp_8 nx_9 kc_10 ks_11))))))))))))))) "WhatIfSheet$Fault" (fun q_92 hp_93 nx_94 => (0 + c_1) ≤ mc ∧ (0 + s_2) ≤ ms ∧ PostX q_92 hp_93 nx_94))
set_option maxHeartbeats 40000000 in
theorem met_X11_term {l : Launch} {g : zG} {d : Nat} {mc ms : Nat} {h0 : Nat} {hp : zHp} {nx : Nat} {Post : Option Nat → zHp → Nat → Prop} {PostX : Nat → zHp → Nat → Prop} (hw : wp_X11_term l g d mc ms h0 hp nx Post PostX) : zMx l g yX11_term cX11_term 4 (some (.object "WhatIfSheet$Node")) (d + 1) mc ms [.ref h0] hp nx (zQq g Post) "WhatIfSheet$Fault" PostX := by
  refine zy_start (by decide) (Nat.le_of_ble_eq_true rfl) ?_
  intro p e s m below meth c hk hr hin htb hH hz ls hl
  have hx := hk.1.1
  have hb := hk.1.2.1
  have hown := hk.1.2.2.2.1
  have hts := hk.1.2.2.2.2
  have hS : va_S (zAd g) s.heap s.heap [] := va_S.rf
  have hl : lv_has ls 4 [(0, va_rf (some h0))] := hl
  unfold wp_X11_term at hw
  refine zr_aload_n (r := some h0) hx hb dX11_term_0 rfl (lv_at hl 0 rfl) ?_
  obtain ⟨c_1, s_2, hcl, hsl, hw⟩ := hw
  obtain ⟨a_95, ci_96, fs_97, er, he, hc, hw⟩ := zo_e hw
  obtain rfl := List.mem_singleton.mp hc
  refine zy_callq (zy_runV (As := []) hk hH hz hS hl.1 er hw (cwV 0 hts (lw_V q1535 q1537 qs29 q170 q1538) rfl rfl rfl (by decide +kernel) (z_room (Nat.le_of_ble_eq_true rfl))) he rfl rfl rfl (Nat.le_of_ble_eq_true rfl) dX11_term_1 ⟨hcl, hsl⟩) hS ?_ (fun r_5 hp_3 nx_4 hw H locs hH hz hS => ?_)
  · intro q_92 hp_93 nx_94 hw H locs hH hz hS hq
    obtain ⟨hkc, hks, hw⟩ := hw
    exact zy_out hk hH hz hS htb hq hw hkc hks
  · refine zr_astore_n (r := r_5) (i := 1) (lv' := [(1, va_rf r_5), (0, va_rf (some h0))]) hx hb dX11_term_4 rfl hl (by decide) (by first | rfl | simp [List.filter_cons, z_cat, z_catI, z_catJ, z_catF, z_catD]) (fun ls hl => ?_)
    refine zx_null hx hb dX11_term_5 ?_
    refine zr_astore_n (r := none) (i := 2) (lv' := [(2, va_rf none), (1, va_rf r_5), (0, va_rf (some h0))]) hx hb dX11_term_6 rfl hl (by decide) (by first | rfl | simp [List.filter_cons, z_cat, z_catI, z_catJ, z_catF, z_catD]) (fun ls hl => ?_)
    obtain ⟨I_7, ⟨n_91, hI⟩, hB_7⟩ := hw
    have hL_7 : ∀ (n_12 : Nat) (r_6 : Option Nat) (r_7 : Option Nat) (hp_8 : zHp) (nx_9 : Nat) (kc_10 : Nat) (ks_11 : Nat) (H : Heap) (locs : List Loc) (ls : Array Slot), I_7 n_12 r_6 r_7 hp_8 nx_9 kc_10 ks_11 → lv_has ls 4 [(0, va_rf (some h0)), (1, va_rf r_6), (2, va_rf r_7)] → zHd g hp_8 H → H.size = nx_9 → va_S (zAd g) s.heap H locs → W p l e (zrm (d + 1) mc ms) s m ([.ref h0] : List Value).toArray below meth c H locs kc_10 ks_11 (vy_MQ below (zQq g Post) (zXC g "WhatIfSheet$Fault" PostX) ([.ref h0] : List Value).toArray s mc ms (zAd g)) (F0 m 7 ls []) := by
      intro n_12
      induction n_12 using Nat.strongRecOn with
      | _ n_12 ih_7 =>
        intro r_6 r_7 hp_8 nx_9 kc_10 ks_11 H locs ls hw hl hH hz hS
        have hw := hB_7 n_12 r_6 r_7 hp_8 nx_9 kc_10 ks_11 hw
        refine zr_aload_n (r := some h0) hx hb dX11_term_7 rfl (lv_at hl 0 rfl) ?_
        obtain ⟨a_13, ci_14, fs_15, x_16, er, he, hc, hv, hw⟩ := zgI_e hw
        refine zw_get hk hH er he hv (fk_X11_59 hc) dX11_term_8 ?_
        refine lv_bipush (v := (42 : Int32)) hx hb dX11_term_11 (by decide) ?_
        obtain ⟨P_34, hP_34, hw⟩ := hw
        have hJ_34 : ∀ (r_17 : Option Nat) (r_18 : Option Nat) (hp_19 : zHp) (nx_20 : Nat) (kc_21 : Nat) (ks_22 : Nat) (H : Heap) (locs : List Loc) (ls : Array Slot), P_34 r_17 r_18 hp_19 nx_20 kc_21 ks_22 → lv_has ls 4 [(0, va_rf (some h0)), (1, va_rf r_17), (2, va_rf r_18)] → zHd g hp_19 H → H.size = nx_20 → va_S (zAd g) s.heap H locs → W p l e (zrm (d + 1) mc ms) s m ([.ref h0] : List Value).toArray below meth c H locs kc_21 ks_22 (vy_MQ below (zQq g Post) (zXC g "WhatIfSheet$Fault" PostX) ([.ref h0] : List Value).toArray s mc ms (zAd g)) (F0 m 34 ls []) := by
          intro r_17 r_18 hp_19 nx_20 kc_21 ks_22 H locs ls hw hl hH hz hS
          have hw := hP_34 r_17 r_18 hp_19 nx_20 kc_21 ks_22 hw
          refine zr_aload_n (r := some h0) hx hb dX11_term_34 rfl (lv_at hl 0 rfl) ?_
          obtain ⟨a_23, ci_24, fs_25, x_26, er, he, hc, hv, hw⟩ := zgI_e hw
          refine zw_get hk hH er he hv (fk_X11_59 hc) dX11_term_35 ?_
          refine lv_istore_n (i := 3) (lv' := [(3, .int x_26), (0, va_rf (some h0)), (1, va_rf r_17), (2, va_rf r_18)]) hx hb dX11_term_38 rfl hl (by decide) (by first | rfl | simp [List.filter_cons, z_cat, z_catI, z_catJ, z_catF, z_catD]) (fun ls hl => ?_)
          refine zr_aload_n (r := some h0) hx hb dX11_term_39 rfl (lv_at hl 1 rfl) ?_
          obtain ⟨c_27, s_28, hcl, hsl, hw⟩ := hw
          obtain ⟨a_73, ci_74, fs_75, er, he, hc, hw⟩ := zo_e hw
          obtain rfl := List.mem_singleton.mp hc
          refine zy_callv (zy_runV (As := []) hk hH hz hS hl.1 er hw (cwV 0 hts (lw_V q1393 q1395 qs20 q170 q1396) rfl rfl rfl (by decide +kernel) (z_room (Nat.le_of_ble_eq_true rfl))) he rfl rfl rfl (Nat.le_of_ble_eq_true rfl) dX11_term_40 ⟨hcl, hsl⟩) hS ?_ (fun hp_29 nx_30 hw H locs hH hz hS => ?_)
          · intro q_70 hp_71 nx_72 hw H locs hH hz hS hq
            obtain ⟨hkc, hks, hw⟩ := hw
            exact zy_out hk hH hz hS htb hq hw hkc hks
          · refine zr_aload_n (r := r_18) hx hb dX11_term_43 rfl (lv_at hl 3 rfl) ?_
            obtain ⟨P_60, hP_60, hw⟩ := hw
            have hJ_60 : ∀ (r_31 : Option Nat) (r_32 : Option Nat) (x_33 : Int32) (hp_34 : zHp) (nx_35 : Nat) (kc_36 : Nat) (ks_37 : Nat) (H : Heap) (locs : List Loc) (ls : Array Slot), P_60 r_31 r_32 x_33 hp_34 nx_35 kc_36 ks_37 → lv_has ls 4 [(0, va_rf (some h0)), (1, va_rf r_31), (2, va_rf r_32), (3, .int x_33)] → zHd g hp_34 H → H.size = nx_35 → va_S (zAd g) s.heap H locs → W p l e (zrm (d + 1) mc ms) s m ([.ref h0] : List Value).toArray below meth c H locs kc_36 ks_37 (vy_MQ below (zQq g Post) (zXC g "WhatIfSheet$Fault" PostX) ([.ref h0] : List Value).toArray s mc ms (zAd g)) (F0 m 60 ls []) := by
              intro r_31 r_32 x_33 hp_34 nx_35 kc_36 ks_37 H locs ls hw hl hH hz hS
              have hw := hP_60 r_31 r_32 x_33 hp_34 nx_35 kc_36 ks_37 hw
              refine zr_aload_n (r := r_32) hx hb dX11_term_60 rfl (lv_at hl 2 rfl) ?_
              refine lv_iload_n hx hb dX11_term_61 rfl (lv_at hl 3 rfl) ?_
              refine zr_aload_n (r := some h0) hx hb dX11_term_62 rfl (lv_at hl 0 rfl) ?_
              obtain ⟨c_38, s_39, hcl, hsl, hw⟩ := hw
              obtain ⟨a_54, ci_55, fs_56, er, he, hc, hw⟩ := zo_e hw
              obtain rfl := List.mem_singleton.mp hc
              refine zy_callq (zy_runV (As := []) hk hH hz hS hl.1 er hw (cwV 0 hts (lw_V q1535 q1537 qs29 q170 q1538) rfl rfl rfl (by decide +kernel) (z_room (Nat.le_of_ble_eq_true rfl))) he rfl rfl rfl (by simp only [List.map_cons, List.map_nil, z_cat]; exact Nat.le_of_ble_eq_true rfl) dX11_term_63 ⟨hcl, hsl⟩) hS ?_ (fun r_42 hp_40 nx_41 hw H locs hH hz hS => ?_)
              · intro q_51 hp_52 nx_53 hw H locs hH hz hS hq
                obtain ⟨hkc, hks, hw⟩ := hw
                exact zy_out hk hH hz hS htb hq hw hkc hks
              · obtain ⟨c_43, s_44, hcl, hsl, hw⟩ := hw
                obtain ⟨a_48, ci_49, fs_50, er, he, hc, hw⟩ := zo_e hw
                obtain rfl := List.mem_singleton.mp hc
                refine zr_callv (zw_runU (As := [.int x_33, va_rf r_42]) hk hH hz hS hl.1 er hw (va_cwU 2 hts (z_U q1884 q1885 q1887 q1888 q190 q1889) rfl rfl rfl rfl (by decide +kernel) (z_room (Nat.le_of_ble_eq_true rfl))) he rfl rfl rfl (Nat.le_of_ble_eq_true rfl) dX11_term_66 ⟨hcl, hsl⟩) hS (fun hp_45 nx_46 hw H locs hH hz hS => ?_)
                refine lv_goto (tgt := 7) hx hb dX11_term_69 (by decide) ?_
                obtain ⟨k_47, hlt, hw⟩ := hw
                exact ih_7 k_47 hlt r_31 r_32 hp_45 nx_46 ((kc_36 + c_38) + c_43) ((ks_37 + s_39) + s_44) _ _ _ hw (lv_sub hl [0, 1, 2] rfl) hH hz hS
            refine zr_ifnonnull (r := r_18) (tgt := 60) hx hb dX11_term_44 (by decide) (fun hc => ?_) (fun hc => ?_)
            · have hw := hw.2 hc
              exact hJ_60 r_17 r_18 x_26 hp_29 nx_30 (kc_21 + c_27) (ks_22 + s_28) _ _ _ hw (lv_sub hl [1, 2, 3, 0] rfl) hH hz hS
            · have hw := hw.1 hc
              obtain ⟨hcl, hsl, hw⟩ := hw
              refine zx_new hk hH hz hS (ci := 27) no_X11_242 hcl hsl dX11_term_47 (fun H hH hz hS hlt hnb => ?_)
              have hw := hw hlt hnb
              generalize va_up hp_29 nx_30 _ = hp_57 at hH hw
              obtain ⟨kc_59, ekc⟩ : ∃ k, k = ((kc_21 + c_27) + 1) := ⟨_, rfl⟩
              obtain ⟨ks_60, eks⟩ : ∃ k, k = ((ks_22 + s_28) + zNn 27) := ⟨_, rfl⟩
              have hw := hw _ _ _ rfl ekc eks
              refine W.widen (Nat.le_of_eq ekc.symm) (Nat.le_of_eq eks.symm) ?_
              clear ekc eks
              generalize (nx_30 + 1) = nx_58 at hz hw
              refine lv_dup hx hb dX11_term_50 (z_cat _) ?_
              refine zr_aload_n (r := some h0) hx hb dX11_term_51 rfl (lv_at hl 1 rfl) ?_
              obtain ⟨a_61, ci_62, fs_63, r_64, er, he, hc, hv, hw⟩ := zgR_e hw
              refine zw_get hk hH er he hv (fk_X11_3 hc) dX11_term_52 ?_
              refine zr_aload_n (r := r_17) hx hb dX11_term_55 rfl (lv_at hl 2 rfl) ?_
              obtain ⟨hcl, hsl, hw⟩ := hw
              refine zr_callv (zw_runI (As := [va_rf r_64, va_rf r_17]) (r := some nx_30) hk hH hz hS hl.1 rfl hw (cwI 2 hts (lw_meth q1862) rfl rfl rfl (hts _ q191) (hts _ q1860) (hts _ q1861) rfl (by decide +kernel) (z_room (Nat.le_of_ble_eq_true rfl))) rfl rfl (by simp only [List.map_cons, List.map_nil, z_cat]; exact Nat.le_of_ble_eq_true rfl) dX11_term_56 ⟨hcl, hsl⟩) hS (fun hp_65 nx_66 hw H locs hH hz hS => ?_)
              refine zr_astore_n (r := some nx_30) (i := 2) (lv' := [(2, va_rf (some nx_30)), (3, .int x_26), (0, va_rf (some h0)), (1, va_rf r_17)]) hx hb dX11_term_59 rfl hl (by decide) (by first | rfl | simp [List.filter_cons, z_cat, z_catI, z_catJ, z_catF, z_catD]) (fun ls hl => ?_)
              exact hJ_60 r_17 (some nx_30) x_26 hp_65 nx_66 kc_59 ks_60 _ _ _ hw (lv_sub hl [2, 3, 0, 1] rfl) hH hz hS
        refine lv_icmp_eq (tgt := 34) hx hb dX11_term_13 (by decide) (fun hc => ?_) (fun hc => ?_)
        · have hw := hw.1 hc
          exact hJ_34 r_6 r_7 hp_8 nx_9 kc_10 ks_11 _ _ _ hw hl hH hz hS
        · have hw := hw.2 hc
          refine zr_aload_n (r := some h0) hx hb dX11_term_16 rfl (lv_at hl 0 rfl) ?_
          obtain ⟨a_76, ci_77, fs_78, x_79, er, he, hc, hv, hw⟩ := zgI_e hw
          refine zw_get hk hH er he hv (fk_X11_59 hc) dX11_term_17 ?_
          refine lv_bipush (v := (47 : Int32)) hx hb dX11_term_20 (by decide) ?_
          refine lv_icmp_eq (tgt := 34) hx hb dX11_term_22 (by decide) (fun hc => ?_) (fun hc => ?_)
          · have hw := hw.1 hc
            exact hJ_34 r_6 r_7 hp_8 nx_9 kc_10 ks_11 _ _ _ hw hl hH hz hS
          · have hw := hw.2 hc
            refine zr_aload_n (r := some h0) hx hb dX11_term_25 rfl (lv_at hl 0 rfl) ?_
            obtain ⟨a_80, ci_81, fs_82, x_83, er, he, hc, hv, hw⟩ := zgI_e hw
            refine zw_get hk hH er he hv (fk_X11_59 hc) dX11_term_26 ?_
            refine lv_bipush (v := (37 : Int32)) hx hb dX11_term_29 (by decide) ?_
            refine lv_icmp_ne (tgt := 72) hx hb dX11_term_31 (by decide) (fun hc => ?_) (fun hc => ?_)
            · have hw := hw.2 hc
              refine zr_aload_n (r := r_7) hx hb dX11_term_72 rfl (lv_at hl 2 rfl) ?_
              obtain ⟨P_81, hP_81, hw⟩ := hw
              have hJ_81 : ∀ (r_84 : Option Nat) (r_85 : Option Nat) (r_86 : Option Nat) (hp_87 : zHp) (nx_88 : Nat) (kc_89 : Nat) (ks_90 : Nat) (H : Heap) (locs : List Loc) (ls : Array Slot), P_81 r_84 r_85 r_86 hp_87 nx_88 kc_89 ks_90 → lv_has ls 4 [(0, va_rf (some h0)), (1, va_rf r_84), (2, va_rf r_85)] → zHd g hp_87 H → H.size = nx_88 → va_S (zAd g) s.heap H locs → W p l e (zrm (d + 1) mc ms) s m ([.ref h0] : List Value).toArray below meth c H locs kc_89 ks_90 (vy_MQ below (zQq g Post) (zXC g "WhatIfSheet$Fault" PostX) ([.ref h0] : List Value).toArray s mc ms (zAd g)) (F0 m 81 ls [va_rf r_86]) := by
                intro r_84 r_85 r_86 hp_87 nx_88 kc_89 ks_90 H locs ls hw hl hH hz hS
                have hw := hP_81 r_84 r_85 r_86 hp_87 nx_88 kc_89 ks_90 hw
                obtain ⟨hkc, hks, hw⟩ := hw
                exact vy_ret (zr_aret (r := r_86) hk hr (Or.inl ⟨_, rfl⟩) hH hz hS hw hkc hks dX11_term_81)
              refine zr_ifnonnull (r := r_7) (tgt := 80) hx hb dX11_term_73 (by decide) (fun hc => ?_) (fun hc => ?_)
              · have hw := hw.2 hc
                refine zr_aload_n (r := r_7) hx hb dX11_term_80 rfl (lv_at hl 2 rfl) ?_
                exact hJ_81 r_6 r_7 r_7 hp_8 nx_9 kc_10 ks_11 _ _ _ hw hl hH hz hS
              · have hw := hw.1 hc
                refine zr_aload_n (r := r_6) hx hb dX11_term_76 rfl (lv_at hl 1 rfl) ?_
                refine lv_goto (tgt := 81) hx hb dX11_term_77 (by decide) ?_
                exact hJ_81 r_6 r_7 r_6 hp_8 nx_9 kc_10 ks_11 _ _ _ hw hl hH hz hS
            · have hw := hw.1 hc
              exact hJ_34 r_6 r_7 hp_8 nx_9 kc_10 ks_11 _ _ _ hw hl hH hz hS
    exact hL_7 n_91 r_5 none hp_3 nx_4 (0 + c_1) (0 + s_2) _ _ _ hI (lv_sub hl [2, 1, 0] rfl) hH hz hS
theorem fk_X11_118 {ci : Nat} (h : ci ∈ [11]) : zFk "WhatIfSheet$Reader" 118 ci 2 := by
  simp only [List.mem_cons, List.not_mem_nil, or_false] at h
  rcases h with rfl
  · exact ⟨RX11, TX11, 10, rfl, by decide, q1360⟩
theorem fp_X11_118 {ci : Nat} (h : ci ∈ [11]) : zFp "WhatIfSheet$Reader" 118 ci 2 .int := by
  simp only [List.mem_cons, List.not_mem_nil, or_false] at h
  rcases h with rfl
  · exact ⟨RX11, TX11, 10, rfl, by decide, q1360, rfl, by decide +kernel⟩
theorem no_X11_237 : zNo "WhatIfSheet$Reader" 237 25 := ⟨RX25, TX25, 3, rfl, q1844, q1845, q189⟩
theorem no_X11_229 : zNo "WhatIfSheet$Reader" 229 24 := ⟨RX24, TX24, 3, rfl, q1830, q1831, q188⟩
def wp_X11_one (l : Launch) (g : zG) (d : Nat) (mc ms : Nat) (h0 : Nat) (hp : zHp) (nx : Nat) (Post : Option Nat → zHp → Nat → Prop) (PostX : Nat → zHp → Nat → Prop) : Prop :=
  (zgR hp (some h0) [11] 3 fun r_4 =>
  ((r_4 = none →
  (zgI hp (some h0) [11] 4 fun x_8 =>
  ((x_8 = (-1 : Int32) →
  (zgI hp (some h0) [11] 5 fun x_12 =>
  ((x_12 = (45 : Int32) →
  (∃ c_44 s_45 : Nat, 0 + c_44 ≤ mc ∧ 0 + s_45 ≤ ms ∧ zo hp (some h0) [11] fun a_83 ci_84 fs_85 => zMx l g yX11_opens cX11_opens 1 none d c_44 s_45 (.ref a_83 :: []) hp nx (zQv g fun hp_46 nx_47 =>
  (∃ c_48 s_49 : Nat, (0 + c_44) + c_48 ≤ mc ∧ (0 + s_45) + s_49 ≤ ms ∧ zo hp_46 (some h0) [11] fun a_77 ci_78 fs_79 => zMx l g yX11_one cX11_one 3 (some (.object "WhatIfSheet$Node")) d c_48 s_49 (.ref a_77 :: []) hp_46 nx_47 (zQq g fun r_52 hp_50 nx_51 =>
  (zgI hp_50 (some h0) [11] 2 fun x_56 =>
  (zpt g hp_50 (some h0) [11] 2 (.int (x_56 - (1 : Int32))) fun hp_60 =>
  (znw g mc ms hp_60 nx_51 ((0 + c_44) + c_48) ((0 + s_45) + s_49) 25 fun hp_61 =>
  ∀ nx_62 kc_63 ks_64 : Nat, nx_62 = (nx_51 + 1) → kc_63 = (((0 + c_44) + c_48) + 1) → ks_64 = (((0 + s_45) + s_49) + zNn 25) →
  (zgR hp_61 (some h0) [11] 9 fun r_68 =>
  (kc_63 ≤ mc ∧ ks_64 ≤ ms ∧ zMt l g yX25_init cX25_init 3 none d 0 0 (.ref nx_51 :: [va_rf r_68, va_rf r_52]) hp_61 nx_62 (zQv g fun hp_69 nx_70 =>
  (kc_63 ≤ mc ∧ ks_64 ≤ ms ∧ Post (some nx_51) hp_69 nx_70)))))))) "WhatIfSheet$Fault" (fun q_74 hp_75 nx_76 => ((0 + c_44) + c_48) ≤ mc ∧ ((0 + s_45) + s_49) ≤ ms ∧ PostX q_74 hp_75 nx_76))) "WhatIfSheet$Fault" (fun q_80 hp_81 nx_82 => (0 + c_44) ≤ mc ∧ (0 + s_45) ≤ ms ∧ PostX q_80 hp_81 nx_82))) ∧
  (¬ x_12 = (45 : Int32) →
  (∃ c_13 s_14 : Nat, 0 + c_13 ≤ mc ∧ 0 + s_14 ≤ ms ∧ zo hp (some h0) [11] fun a_41 ci_42 fs_43 => zMx l g yX11_opensRound cX11_opensRound 1 none d c_13 s_14 (.ref a_41 :: []) hp nx (zQv g fun hp_15 nx_16 =>
  (∃ c_17 s_18 : Nat, (0 + c_13) + c_17 ≤ mc ∧ (0 + s_14) + s_18 ≤ ms ∧ zo hp_15 (some h0) [11] fun a_35 ci_36 fs_37 => zMx l g yX11_even cX11_even 3 (some (.object "WhatIfSheet$Node")) d c_17 s_18 (.ref a_35 :: []) hp_15 nx_16 (zQq g fun r_21 hp_19 nx_20 =>
  (∃ c_22 s_23 : Nat, ((0 + c_13) + c_17) + c_22 ≤ mc ∧ ((0 + s_14) + s_18) + s_23 ≤ ms ∧ zo hp_19 (some h0) [11] fun a_29 ci_30 fs_31 => zMx l g yX11_closes cX11_closes 1 none d c_22 s_23 (.ref a_29 :: []) hp_19 nx_20 (zQv g fun hp_24 nx_25 =>
  ((((0 + c_13) + c_17) + c_22) ≤ mc ∧ (((0 + s_14) + s_18) + s_23) ≤ ms ∧ Post r_21 hp_24 nx_25)) "WhatIfSheet$Fault" (fun q_26 hp_27 nx_28 => (((0 + c_13) + c_17) + c_22) ≤ mc ∧ (((0 + s_14) + s_18) + s_23) ≤ ms ∧ PostX q_26 hp_27 nx_28))) "WhatIfSheet$Fault" (fun q_32 hp_33 nx_34 => ((0 + c_13) + c_17) ≤ mc ∧ ((0 + s_14) + s_18) ≤ ms ∧ PostX q_32 hp_33 nx_34))) "WhatIfSheet$Fault" (fun q_38 hp_39 nx_40 => (0 + c_13) ≤ mc ∧ (0 + s_14) ≤ ms ∧ PostX q_38 hp_39 nx_40)))))) ∧
  (¬ x_8 = (-1 : Int32) →
  (zgI hp (some h0) [11] 4 fun x_89 =>
  (vf_n64 (FP.ddiv (FP.i2d x_89) (4652007308841189376 : UInt64)) ∧ (∀ x_90 : UInt64, x_90 = FP.ddiv (FP.i2d x_89) (4652007308841189376 : UInt64) →
  (∃ c_91 s_92 : Nat, 0 + c_91 ≤ mc ∧ 0 + s_92 ≤ ms ∧ zo hp (some h0) [11] fun a_111 ci_112 fs_113 => zMx l g yX11_next cX11_next 1 none d c_91 s_92 (.ref a_111 :: []) hp nx (zQv g fun hp_93 nx_94 =>
  (znw g mc ms hp_93 nx_94 (0 + c_91) (0 + s_92) 24 fun hp_95 =>
  ∀ nx_96 kc_97 ks_98 : Nat, nx_96 = (nx_94 + 1) → kc_97 = ((0 + c_91) + 1) → ks_98 = ((0 + s_92) + zNn 24) →
  (zgR hp_95 (some h0) [11] 9 fun r_102 =>
  (kc_97 ≤ mc ∧ ks_98 ≤ ms ∧ zMt l g yX24_init cX24_init 4 none d 0 0 (.ref nx_94 :: [va_rf r_102, .double x_90]) hp_95 nx_96 (zQv g fun hp_103 nx_104 =>
  (kc_97 ≤ mc ∧ ks_98 ≤ ms ∧ Post (some nx_94) hp_103 nx_104)))))) "WhatIfSheet$Fault" (fun q_108 hp_109 nx_110 => (0 + c_91) ≤ mc ∧ (0 + s_92) ≤ ms ∧ PostX q_108 hp_109 nx_110))))))))) ∧
  (¬ r_4 = none →
  (∃ c_114 s_115 : Nat, 0 + c_114 ≤ mc ∧ 0 + s_115 ≤ ms ∧ zo hp (some h0) [11] fun a_122 ci_123 fs_124 => zMx l g yX11_named cX11_named 2 (some (.object "WhatIfSheet$Node")) d c_114 s_115 (.ref a_122 :: []) hp nx (zQq g fun r_118 hp_116 nx_117 =>
  ((0 + c_114) ≤ mc ∧ (0 + s_115) ≤ ms ∧ Post r_118 hp_116 nx_117)) "WhatIfSheet$Fault" (fun q_119 hp_120 nx_121 => (0 + c_114) ≤ mc ∧ (0 + s_115) ≤ ms ∧ PostX q_119 hp_120 nx_121)))))
set_option maxHeartbeats 40000000 in
theorem met_X11_one {l : Launch} {g : zG} {d : Nat} {mc ms : Nat} {h0 : Nat} {hp : zHp} {nx : Nat} {Post : Option Nat → zHp → Nat → Prop} {PostX : Nat → zHp → Nat → Prop} (hw : wp_X11_one l g d mc ms h0 hp nx Post PostX) : zMx l g yX11_one cX11_one 3 (some (.object "WhatIfSheet$Node")) (d + 1) mc ms [.ref h0] hp nx (zQq g Post) "WhatIfSheet$Fault" PostX := by
  refine zy_start (by decide) (Nat.le_of_ble_eq_true rfl) ?_
  intro p e s m below meth c hk hr hin htb hH hz ls hl
  have hx := hk.1.1
  have hb := hk.1.2.1
  have hown := hk.1.2.2.2.1
  have hts := hk.1.2.2.2.2
  have hS : va_S (zAd g) s.heap s.heap [] := va_S.rf
  have hl : lv_has ls 3 [(0, va_rf (some h0))] := hl
  unfold wp_X11_one at hw
  refine zr_aload_n (r := some h0) hx hb dX11_one_0 rfl (lv_at hl 0 rfl) ?_
  obtain ⟨a_1, ci_2, fs_3, r_4, er, he, hc, hv, hw⟩ := zgR_e hw
  refine zw_get hk hH er he hv (fk_X11_52 hc) dX11_one_1 ?_
  refine zr_ifnull (r := r_4) (tgt := 12) hx hb dX11_one_4 (by decide) (fun hc => ?_) (fun hc => ?_)
  · have hw := hw.1 hc
    refine zr_aload_n (r := some h0) hx hb dX11_one_12 rfl (lv_at hl 0 rfl) ?_
    obtain ⟨a_5, ci_6, fs_7, x_8, er, he, hc, hv, hw⟩ := zgI_e hw
    refine zw_get hk hH er he hv (fk_X11_56 hc) dX11_one_13 ?_
    refine lv_iconst (v := (-1 : Int32)) hx hb dX11_one_16 (by decide) ?_
    refine lv_icmp_eq (tgt := 47) hx hb dX11_one_17 (by decide) (fun hc => ?_) (fun hc => ?_)
    · have hw := hw.1 hc
      refine zr_aload_n (r := some h0) hx hb dX11_one_47 rfl (lv_at hl 0 rfl) ?_
      obtain ⟨a_9, ci_10, fs_11, x_12, er, he, hc, hv, hw⟩ := zgI_e hw
      refine zw_get hk hH er he hv (fk_X11_59 hc) dX11_one_48 ?_
      refine lv_bipush (v := (45 : Int32)) hx hb dX11_one_51 (by decide) ?_
      refine lv_icmp_ne (tgt := 88) hx hb dX11_one_53 (by decide) (fun hc => ?_) (fun hc => ?_)
      · have hw := hw.2 hc
        refine zr_aload_n (r := some h0) hx hb dX11_one_88 rfl (lv_at hl 0 rfl) ?_
        obtain ⟨c_13, s_14, hcl, hsl, hw⟩ := hw
        obtain ⟨a_41, ci_42, fs_43, er, he, hc, hw⟩ := zo_e hw
        obtain rfl := List.mem_singleton.mp hc
        refine zy_callv (zy_runV (As := []) hk hH hz hS hl.1 er hw (cwV 0 hts (lw_V q1553 q1555 qs33 q170 q1556) rfl rfl rfl (by decide +kernel) (z_room (Nat.le_of_ble_eq_true rfl))) he rfl rfl rfl (Nat.le_of_ble_eq_true rfl) dX11_one_89 ⟨hcl, hsl⟩) hS ?_ (fun hp_15 nx_16 hw H locs hH hz hS => ?_)
        · intro q_38 hp_39 nx_40 hw H locs hH hz hS hq
          obtain ⟨hkc, hks, hw⟩ := hw
          exact zy_out hk hH hz hS htb hq hw hkc hks
        · refine zr_aload_n (r := some h0) hx hb dX11_one_92 rfl (lv_at hl 0 rfl) ?_
          obtain ⟨c_17, s_18, hcl, hsl, hw⟩ := hw
          obtain ⟨a_35, ci_36, fs_37, er, he, hc, hw⟩ := zo_e hw
          obtain rfl := List.mem_singleton.mp hc
          refine zy_callq (zy_runV (As := []) hk hH hz hS hl.1 er hw (cwV 0 hts (lw_V q1523 q1525 qs26 q170 q1526) rfl rfl rfl (by decide +kernel) (z_room (Nat.le_of_ble_eq_true rfl))) he rfl rfl rfl (Nat.le_of_ble_eq_true rfl) dX11_one_93 ⟨hcl, hsl⟩) hS ?_ (fun r_21 hp_19 nx_20 hw H locs hH hz hS => ?_)
          · intro q_32 hp_33 nx_34 hw H locs hH hz hS hq
            obtain ⟨hkc, hks, hw⟩ := hw
            exact zy_out hk hH hz hS htb hq hw hkc hks
          · refine zr_astore_n (r := r_21) (i := 1) (lv' := [(1, va_rf r_21), (0, va_rf (some h0))]) hx hb dX11_one_96 rfl hl (by decide) (by first | rfl | simp [List.filter_cons, z_cat, z_catI, z_catJ, z_catF, z_catD]) (fun ls hl => ?_)
            refine zr_aload_n (r := some h0) hx hb dX11_one_97 rfl (lv_at hl 1 rfl) ?_
            obtain ⟨c_22, s_23, hcl, hsl, hw⟩ := hw
            obtain ⟨a_29, ci_30, fs_31, er, he, hc, hw⟩ := zo_e hw
            obtain rfl := List.mem_singleton.mp hc
            refine zy_callv (zy_runV (As := []) hk hH hz hS hl.1 er hw (cwV 0 hts (lw_V q1565 q1567 qs36 q170 q1568) rfl rfl rfl (by decide +kernel) (z_room (Nat.le_of_ble_eq_true rfl))) he rfl rfl rfl (Nat.le_of_ble_eq_true rfl) dX11_one_98 ⟨hcl, hsl⟩) hS ?_ (fun hp_24 nx_25 hw H locs hH hz hS => ?_)
            · intro q_26 hp_27 nx_28 hw H locs hH hz hS hq
              obtain ⟨hkc, hks, hw⟩ := hw
              exact zy_out hk hH hz hS htb hq hw hkc hks
            · refine zr_aload_n (r := r_21) hx hb dX11_one_101 rfl (lv_at hl 0 rfl) ?_
              obtain ⟨hkc, hks, hw⟩ := hw
              exact vy_ret (zr_aret (r := r_21) hk hr (Or.inl ⟨_, rfl⟩) hH hz hS hw hkc hks dX11_one_102)
      · have hw := hw.1 hc
        refine zr_aload_n (r := some h0) hx hb dX11_one_56 rfl (lv_at hl 0 rfl) ?_
        obtain ⟨c_44, s_45, hcl, hsl, hw⟩ := hw
        obtain ⟨a_83, ci_84, fs_85, er, he, hc, hw⟩ := zo_e hw
        obtain rfl := List.mem_singleton.mp hc
        refine zy_callv (zy_runV (As := []) hk hH hz hS hl.1 er hw (cwV 0 hts (lw_V q1557 q1559 qs34 q170 q1560) rfl rfl rfl (by decide +kernel) (z_room (Nat.le_of_ble_eq_true rfl))) he rfl rfl rfl (Nat.le_of_ble_eq_true rfl) dX11_one_57 ⟨hcl, hsl⟩) hS ?_ (fun hp_46 nx_47 hw H locs hH hz hS => ?_)
        · intro q_80 hp_81 nx_82 hw H locs hH hz hS hq
          obtain ⟨hkc, hks, hw⟩ := hw
          exact zy_out hk hH hz hS htb hq hw hkc hks
        · refine zr_aload_n (r := some h0) hx hb dX11_one_60 rfl (lv_at hl 0 rfl) ?_
          obtain ⟨c_48, s_49, hcl, hsl, hw⟩ := hw
          obtain ⟨a_77, ci_78, fs_79, er, he, hc, hw⟩ := zo_e hw
          obtain rfl := List.mem_singleton.mp hc
          refine zy_callq (zy_runV (As := []) hk hH hz hS hl.1 er hw (cwV 0 hts (lw_V q1535 q1537 qs29 q170 q1538) rfl rfl rfl (by decide +kernel) (z_room (Nat.le_of_ble_eq_true rfl))) he rfl rfl rfl (Nat.le_of_ble_eq_true rfl) dX11_one_61 ⟨hcl, hsl⟩) hS ?_ (fun r_52 hp_50 nx_51 hw H locs hH hz hS => ?_)
          · intro q_74 hp_75 nx_76 hw H locs hH hz hS hq
            obtain ⟨hkc, hks, hw⟩ := hw
            exact zy_out hk hH hz hS htb hq hw hkc hks
          · refine zr_astore_n (r := r_52) (i := 1) (lv' := [(1, va_rf r_52), (0, va_rf (some h0))]) hx hb dX11_one_64 rfl hl (by decide) (by first | rfl | simp [List.filter_cons, z_cat, z_catI, z_catJ, z_catF, z_catD]) (fun ls hl => ?_)
            refine zr_aload_n (r := some h0) hx hb dX11_one_65 rfl (lv_at hl 1 rfl) ?_
            refine lv_dup hx hb dX11_one_66 (z_cat _) ?_
            obtain ⟨a_53, ci_54, fs_55, x_56, er, he, hc, hv, hw⟩ := zgI_e hw
            refine zw_get hk hH er he hv (fk_X11_118 hc) dX11_one_67 ?_
            refine lv_iconst (v := (1 : Int32)) hx hb dX11_one_70 (by decide) ?_
            refine lv_isub hx hb dX11_one_71 ?_
            obtain ⟨a_57, ci_58, fs_59, hp_60, er, he, hc, hA, hkl, eh, hw⟩ := zpt_e hw
            refine zw_put hk hH hz hS er he hA hkl eh (fp_X11_118 hc) rfl rfl dX11_one_72 (fun H locs hH hz hS => ?_)
            obtain ⟨hcl, hsl, hw⟩ := hw
            refine zx_new hk hH hz hS (ci := 25) no_X11_237 hcl hsl dX11_one_75 (fun H hH hz hS hlt hnb => ?_)
            have hw := hw hlt hnb
            generalize va_up hp_60 nx_51 _ = hp_61 at hH hw
            obtain ⟨kc_63, ekc⟩ : ∃ k, k = (((0 + c_44) + c_48) + 1) := ⟨_, rfl⟩
            obtain ⟨ks_64, eks⟩ : ∃ k, k = (((0 + s_45) + s_49) + zNn 25) := ⟨_, rfl⟩
            have hw := hw _ _ _ rfl ekc eks
            refine W.widen (Nat.le_of_eq ekc.symm) (Nat.le_of_eq eks.symm) ?_
            clear ekc eks
            generalize (nx_51 + 1) = nx_62 at hz hw
            refine lv_dup hx hb dX11_one_78 (z_cat _) ?_
            refine zr_aload_n (r := some h0) hx hb dX11_one_79 rfl (lv_at hl 1 rfl) ?_
            obtain ⟨a_65, ci_66, fs_67, r_68, er, he, hc, hv, hw⟩ := zgR_e hw
            refine zw_get hk hH er he hv (fk_X11_3 hc) dX11_one_80 ?_
            refine zr_aload_n (r := r_52) hx hb dX11_one_83 rfl (lv_at hl 0 rfl) ?_
            obtain ⟨hcl, hsl, hw⟩ := hw
            refine zr_callv (zw_runI (As := [va_rf r_68, va_rf r_52]) (r := some nx_51) hk hH hz hS hl.1 rfl hw (cwI 2 hts (lw_meth q1848) rfl rfl rfl (hts _ q189) (hts _ q1846) (hts _ q1847) rfl (by decide +kernel) (z_room (Nat.le_of_ble_eq_true rfl))) rfl rfl (by simp only [List.map_cons, List.map_nil, z_cat]; exact Nat.le_of_ble_eq_true rfl) dX11_one_84 ⟨hcl, hsl⟩) hS (fun hp_69 nx_70 hw H locs hH hz hS => ?_)
            obtain ⟨hkc, hks, hw⟩ := hw
            exact vy_ret (zr_aret (r := some nx_51) hk hr (Or.inl ⟨_, rfl⟩) hH hz hS hw hkc hks dX11_one_87)
    · have hw := hw.2 hc
      refine zr_aload_n (r := some h0) hx hb dX11_one_20 rfl (lv_at hl 0 rfl) ?_
      obtain ⟨a_86, ci_87, fs_88, x_89, er, he, hc, hv, hw⟩ := zgI_e hw
      refine zw_get hk hH er he hv (fk_X11_56 hc) dX11_one_21 ?_
      refine lv_i2d hx hb dX11_one_24 ?_
      refine lv_ldc2d hx hb hown (hts _ q1829) dX11_one_25 ?_
      obtain ⟨hne, hw⟩ := hw
      refine lv_ddiv hx hb dX11_one_28 hne ?_
      refine lv_topd (fun x_90 ex_90 => ?_)
      have hw := hw x_90 ex_90
      refine lv_dstore_n (i := 1) (lv' := [(1, .double x_90), (0, va_rf (some h0))]) hx hb dX11_one_29 rfl hl (by decide) (by first | rfl | simp [List.filter_cons, z_cat, z_catI, z_catJ, z_catF, z_catD]) (fun ls hl => ?_)
      refine zr_aload_n (r := some h0) hx hb dX11_one_30 rfl (lv_at hl 1 rfl) ?_
      obtain ⟨c_91, s_92, hcl, hsl, hw⟩ := hw
      obtain ⟨a_111, ci_112, fs_113, er, he, hc, hw⟩ := zo_e hw
      obtain rfl := List.mem_singleton.mp hc
      refine zy_callv (zy_runV (As := []) hk hH hz hS hl.1 er hw (cwV 0 hts (lw_V q1393 q1395 qs20 q170 q1396) rfl rfl rfl (by decide +kernel) (z_room (Nat.le_of_ble_eq_true rfl))) he rfl rfl rfl (Nat.le_of_ble_eq_true rfl) dX11_one_31 ⟨hcl, hsl⟩) hS ?_ (fun hp_93 nx_94 hw H locs hH hz hS => ?_)
      · intro q_108 hp_109 nx_110 hw H locs hH hz hS hq
        obtain ⟨hkc, hks, hw⟩ := hw
        exact zy_out hk hH hz hS htb hq hw hkc hks
      · obtain ⟨hcl, hsl, hw⟩ := hw
        refine zx_new hk hH hz hS (ci := 24) no_X11_229 hcl hsl dX11_one_34 (fun H hH hz hS hlt hnb => ?_)
        have hw := hw hlt hnb
        generalize va_up hp_93 nx_94 _ = hp_95 at hH hw
        obtain ⟨kc_97, ekc⟩ : ∃ k, k = ((0 + c_91) + 1) := ⟨_, rfl⟩
        obtain ⟨ks_98, eks⟩ : ∃ k, k = ((0 + s_92) + zNn 24) := ⟨_, rfl⟩
        have hw := hw _ _ _ rfl ekc eks
        refine W.widen (Nat.le_of_eq ekc.symm) (Nat.le_of_eq eks.symm) ?_
        clear ekc eks
        generalize (nx_94 + 1) = nx_96 at hz hw
        refine lv_dup hx hb dX11_one_37 (z_cat _) ?_
        refine zr_aload_n (r := some h0) hx hb dX11_one_38 rfl (lv_at hl 1 rfl) ?_
        obtain ⟨a_99, ci_100, fs_101, r_102, er, he, hc, hv, hw⟩ := zgR_e hw
        refine zw_get hk hH er he hv (fk_X11_3 hc) dX11_one_39 ?_
        refine lv_dload_n hx hb dX11_one_42 rfl (lv_at hl 0 rfl) ?_
        obtain ⟨hcl, hsl, hw⟩ := hw
        refine zr_callv (zw_runI (As := [va_rf r_102, .double x_90]) (r := some nx_94) hk hH hz hS hl.1 rfl hw (cwI 2 hts (lw_meth q1834) rfl rfl rfl (hts _ q188) (hts _ q1832) (hts _ q1833) rfl (by decide +kernel) (z_room (Nat.le_of_ble_eq_true rfl))) rfl rfl (by simp only [List.map_cons, List.map_nil, z_cat]; exact Nat.le_of_ble_eq_true rfl) dX11_one_43 ⟨hcl, hsl⟩) hS (fun hp_103 nx_104 hw H locs hH hz hS => ?_)
        obtain ⟨hkc, hks, hw⟩ := hw
        exact vy_ret (zr_aret (r := some nx_94) hk hr (Or.inl ⟨_, rfl⟩) hH hz hS hw hkc hks dX11_one_46)
  · have hw := hw.2 hc
    refine zr_aload_n (r := some h0) hx hb dX11_one_7 rfl (lv_at hl 0 rfl) ?_
    obtain ⟨c_114, s_115, hcl, hsl, hw⟩ := hw
    obtain ⟨a_122, ci_123, fs_124, er, he, hc, hw⟩ := zo_e hw
    obtain rfl := List.mem_singleton.mp hc
    refine zy_callq (zy_runV (As := []) hk hH hz hS hl.1 er hw (cwV 0 hts (lw_V q1539 q1541 qs30 q170 q1542) rfl rfl rfl (by decide +kernel) (z_room (Nat.le_of_ble_eq_true rfl))) he rfl rfl rfl (Nat.le_of_ble_eq_true rfl) dX11_one_8 ⟨hcl, hsl⟩) hS ?_ (fun r_118 hp_116 nx_117 hw H locs hH hz hS => ?_)
    · intro q_119 hp_120 nx_121 hw H locs hH hz hS hq
      obtain ⟨hkc, hks, hw⟩ := hw
      exact zy_out hk hH hz hS htb hq hw hkc hks
    · obtain ⟨hkc, hks, hw⟩ := hw
      exact vy_ret (zr_aret (r := r_118) hk hr (Or.inl ⟨_, rfl⟩) hH hz hS hw hkc hks dX11_one_11)
theorem no_X11_221 : zNo "WhatIfSheet$Reader" 221 23 := ⟨RX23, TX23, 3, rfl, q1815, q1816, q187⟩
def wp_X11_named (l : Launch) (g : zG) (d : Nat) (mc ms : Nat) (h0 : Nat) (hp : zHp) (nx : Nat) (Post : Option Nat → zHp → Nat → Prop) (PostX : Nat → zHp → Nat → Prop) : Prop :=
  (0 ≤ mc ∧ 0 ≤ ms ∧ zo hp (some h0) [11] fun a_170 ci_171 fs_172 => zMt l g yX11_is cX11_is 2 (some .boolean) d 0 0 (.ref a_170 :: [va_rf (some (g.2.2.2.2 1))]) hp nx (zQi g fun x_3 hp_1 nx_2 =>
  ((x_3 = 0 →
  (0 ≤ mc ∧ 0 ≤ ms ∧ zo hp_1 (some h0) [11] fun a_156 ci_157 fs_158 => zMt l g yX11_is cX11_is 2 (some .boolean) d 0 0 (.ref a_156 :: [va_rf (some (g.2.2.2.2 2))]) hp_1 nx_2 (zQi g fun x_6 hp_4 nx_5 =>
  (∃ P_32 : zHp → Nat → Nat → Nat → Prop, (∀ (hp_7 : zHp) (nx_8 : Nat) (kc_9 : Nat) (ks_10 : Nat), P_32 hp_7 nx_8 kc_9 ks_10 →
  (kc_9 ≤ mc ∧ ks_10 ≤ ms ∧ zo hp_7 (some h0) [11] fun a_25 ci_26 fs_27 => zMt l g yX11_is cX11_is 2 (some .boolean) d 0 0 (.ref a_25 :: [va_rf (some (g.2.2.2.2 2))]) hp_7 nx_8 (zQi g fun x_13 hp_11 nx_12 =>
  (∃ c_14 s_15 : Nat, kc_9 + c_14 ≤ mc ∧ ks_10 + s_15 ≤ ms ∧ zo hp_11 (some h0) [11] fun a_22 ci_23 fs_24 => zMx l g yX11_two cX11_two 4 (some (.object "WhatIfSheet$Node")) d c_14 s_15 (.ref a_22 :: [.int x_13]) hp_11 nx_12 (zQq g fun r_18 hp_16 nx_17 =>
  ((kc_9 + c_14) ≤ mc ∧ (ks_10 + s_15) ≤ ms ∧ Post r_18 hp_16 nx_17)) "WhatIfSheet$Fault" (fun q_19 hp_20 nx_21 => (kc_9 + c_14) ≤ mc ∧ (ks_10 + s_15) ≤ ms ∧ PostX q_19 hp_20 nx_21))))) ∧
  ((x_6 = 0 →
  (0 ≤ mc ∧ 0 ≤ ms ∧ zo hp_4 (some h0) [11] fun a_153 ci_154 fs_155 => zMt l g yX11_is cX11_is 2 (some .boolean) d 0 0 (.ref a_153 :: [va_rf (some (g.2.2.2.2 3))]) hp_4 nx_5 (zQi g fun x_30 hp_28 nx_29 =>
  ((x_30 = 0 →
  (0 ≤ mc ∧ 0 ≤ ms ∧ zo hp_28 (some h0) [11] fun a_150 ci_151 fs_152 => zMt l g yX11_is cX11_is 2 (some .boolean) d 0 0 (.ref a_150 :: [va_rf (some (g.2.2.2.2 4))]) hp_28 nx_29 (zQi g fun x_33 hp_31 nx_32 =>
  (∃ P_88 : zHp → Nat → Nat → Nat → Prop, (∀ (hp_34 : zHp) (nx_35 : Nat) (kc_36 : Nat) (ks_37 : Nat), P_88 hp_34 nx_35 kc_36 ks_37 →
  (zgR hp_34 (some h0) [11] 3 fun r_41 =>
  (∃ c_42 s_43 : Nat, kc_36 + c_42 ≤ mc ∧ ks_37 + s_43 ≤ ms ∧ zo hp_34 (some h0) [11] fun a_50 ci_51 fs_52 => zMx l g yX11_asked cX11_asked 5 (some (.object "WhatIfSheet$Node")) d c_42 s_43 (.ref a_50 :: [va_rf r_41]) hp_34 nx_35 (zQq g fun r_46 hp_44 nx_45 =>
  ((kc_36 + c_42) ≤ mc ∧ (ks_37 + s_43) ≤ ms ∧ Post r_46 hp_44 nx_45)) "WhatIfSheet$Fault" (fun q_47 hp_48 nx_49 => (kc_36 + c_42) ≤ mc ∧ (ks_37 + s_43) ≤ ms ∧ PostX q_47 hp_48 nx_49)))) ∧
  ((x_33 = 0 →
  (0 ≤ mc ∧ 0 ≤ ms ∧ zo hp_31 (some h0) [11] fun a_147 ci_148 fs_149 => zMt l g yX11_is cX11_is 2 (some .boolean) d 0 0 (.ref a_147 :: [va_rf (some (g.2.2.2.2 5))]) hp_31 nx_32 (zQi g fun x_55 hp_53 nx_54 =>
  ((x_55 = 0 →
  (0 ≤ mc ∧ 0 ≤ ms ∧ zo hp_53 (some h0) [11] fun a_144 ci_145 fs_146 => zMt l g yX11_is cX11_is 2 (some .boolean) d 0 0 (.ref a_144 :: [va_rf (some (g.2.2.2.2 6))]) hp_53 nx_54 (zQi g fun x_58 hp_56 nx_57 =>
  ((x_58 = 0 →
  (0 ≤ mc ∧ 0 ≤ ms ∧ zo hp_56 (some h0) [11] fun a_141 ci_142 fs_143 => zMt l g yX11_is cX11_is 2 (some .boolean) d 0 0 (.ref a_141 :: [va_rf (some (g.2.2.2.2 7))]) hp_56 nx_57 (zQi g fun x_61 hp_59 nx_60 =>
  ((x_61 = 0 →
  (0 ≤ mc ∧ 0 ≤ ms ∧ zo hp_59 (some h0) [11] fun a_138 ci_139 fs_140 => zMt l g yX11_is cX11_is 2 (some .boolean) d 0 0 (.ref a_138 :: [va_rf (some (g.2.2.2.2 8))]) hp_59 nx_60 (zQi g fun x_64 hp_62 nx_63 =>
  ((x_64 = 0 →
  (zgR hp_62 (some h0) [11] 3 fun r_68 =>
  (0 ≤ mc ∧ 0 ≤ ms ∧ zo hp_62 r_68 [40] fun a_135 ci_136 fs_137 => zMt l g yJ7_length cJ7_length 1 (some .int) d 0 0 (.ref a_135 :: []) hp_62 nx_63 (zQi g fun x_71 hp_69 nx_70 =>
  (∃ P_123 : Int32 → zHp → Nat → Nat → Nat → Prop, (∀ (x_72 : Int32) (hp_73 : zHp) (nx_74 : Nat) (kc_75 : Nat) (ks_76 : Nat), P_123 x_72 hp_73 nx_74 kc_75 ks_76 →
  (kc_75 ≤ mc ∧ ks_76 ≤ ms ∧ zMt l g yX0_isCell cX0_isCell 1 (some .boolean) d 0 0 [.int x_72] hp_73 nx_74 (zQi g fun x_79 hp_77 nx_78 =>
  ((x_79 = 0 →
  (∃ c_114 s_115 : Nat, kc_75 + c_114 ≤ mc ∧ ks_76 + s_115 ≤ ms ∧ zo hp_77 (some h0) [11] fun a_122 ci_123 fs_124 => zMt l g yX11_fault cX11_fault 1 (some (.object "WhatIfSheet$Fault")) d c_114 s_115 (.ref a_122 :: []) hp_77 nx_78 (zQq g fun r_118 hp_116 nx_117 =>
  (zo hp_116 r_118 [12] fun a_119 ci_120 fs_121 => (kc_75 + c_114) ≤ mc ∧ (ks_76 + s_115) ≤ ms ∧ PostX a_119 hp_116 nx_117)))) ∧
  (¬ x_79 = 0 →
  (zgR hp_77 (some h0) [11] 7 fun r_83 =>
  (∃ c_84 s_85 : Nat, kc_75 + c_84 ≤ mc ∧ ks_76 + s_85 ≤ ms ∧ zo hp_77 r_83 [34] fun a_111 ci_112 fs_113 => zMt l g yJ0_set cJ0_set 3 none d c_84 s_85 (.ref a_111 :: [.int x_72]) hp_77 nx_78 (zQv g fun hp_86 nx_87 =>
  (∃ c_88 s_89 : Nat, (kc_75 + c_84) + c_88 ≤ mc ∧ (ks_76 + s_85) + s_89 ≤ ms ∧ zo hp_86 (some h0) [11] fun a_108 ci_109 fs_110 => zMx l g yX11_next cX11_next 1 none d c_88 s_89 (.ref a_108 :: []) hp_86 nx_87 (zQv g fun hp_90 nx_91 =>
  (znw g mc ms hp_90 nx_91 ((kc_75 + c_84) + c_88) ((ks_76 + s_85) + s_89) 23 fun hp_92 =>
  ∀ nx_93 kc_94 ks_95 : Nat, nx_93 = (nx_91 + 1) → kc_94 = (((kc_75 + c_84) + c_88) + 1) → ks_95 = (((ks_76 + s_85) + s_89) + zNn 23) →
  (zgR hp_92 (some h0) [11] 9 fun r_99 =>
  (kc_94 ≤ mc ∧ ks_95 ≤ ms ∧ zMt l g yX23_init cX23_init 3 none d 0 0 (.ref nx_91 :: [va_rf r_99, .int x_72]) hp_92 nx_93 (zQv g fun hp_100 nx_101 =>
  (kc_94 ≤ mc ∧ ks_95 ≤ ms ∧ Post (some nx_91) hp_100 nx_101)))))) "WhatIfSheet$Fault" (fun q_105 hp_106 nx_107 => ((kc_75 + c_84) + c_88) ≤ mc ∧ ((ks_76 + s_85) + s_89) ≤ ms ∧ PostX q_105 hp_106 nx_107)))))))))) ∧
  ((x_71 = (1 : Int32) →
  (zgR hp_69 (some h0) [11] 3 fun r_128 =>
  (0 ≤ mc ∧ 0 ≤ ms ∧ zo hp_69 r_128 [40] fun a_132 ci_133 fs_134 => zMt l g yJ7_charAt cJ7_charAt 2 (some .char) d 0 0 (.ref a_132 :: [.int (0 : Int32)]) hp_69 nx_70 (zQi g fun x_131 hp_129 nx_130 =>
  P_123 (x_131 - (97 : Int32)) hp_129 nx_130 0 0)))) ∧
  (¬ x_71 = (1 : Int32) →
  P_123 (-1 : Int32) hp_69 nx_70 0 0))))))) ∧
  (¬ x_64 = 0 →
  P_88 hp_62 nx_63 0 0))))) ∧
  (¬ x_61 = 0 →
  P_88 hp_59 nx_60 0 0))))) ∧
  (¬ x_58 = 0 →
  P_88 hp_56 nx_57 0 0))))) ∧
  (¬ x_55 = 0 →
  P_88 hp_53 nx_54 0 0))))) ∧
  (¬ x_33 = 0 →
  P_88 hp_31 nx_32 0 0)))))) ∧
  (¬ x_30 = 0 →
  P_32 hp_28 nx_29 0 0))))) ∧
  (¬ x_6 = 0 →
  P_32 hp_4 nx_5 0 0)))))) ∧
  (¬ x_3 = 0 →
  (∃ c_159 s_160 : Nat, 0 + c_159 ≤ mc ∧ 0 + s_160 ≤ ms ∧ zo hp_1 (some h0) [11] fun a_167 ci_168 fs_169 => zMx l g yX11_pick cX11_pick 4 (some (.object "WhatIfSheet$Node")) d c_159 s_160 (.ref a_167 :: []) hp_1 nx_2 (zQq g fun r_163 hp_161 nx_162 =>
  ((0 + c_159) ≤ mc ∧ (0 + s_160) ≤ ms ∧ Post r_163 hp_161 nx_162)) "WhatIfSheet$Fault" (fun q_164 hp_165 nx_166 => (0 + c_159) ≤ mc ∧ (0 + s_160) ≤ ms ∧ PostX q_164 hp_165 nx_166))))))
set_option maxHeartbeats 40000000 in
theorem met_X11_named {l : Launch} {g : zG} {d : Nat} {mc ms : Nat} {h0 : Nat} {hp : zHp} {nx : Nat} {Post : Option Nat → zHp → Nat → Prop} {PostX : Nat → zHp → Nat → Prop} (hw : wp_X11_named l g d mc ms h0 hp nx Post PostX) : zMx l g yX11_named cX11_named 2 (some (.object "WhatIfSheet$Node")) (d + 1) mc ms [.ref h0] hp nx (zQq g Post) "WhatIfSheet$Fault" PostX := by
  refine zy_start (by decide) (Nat.le_of_ble_eq_true rfl) ?_
  intro p e s m below meth c hk hr hin htb hH hz ls hl
  have hx := hk.1.1
  have hb := hk.1.2.1
  have hown := hk.1.2.2.2.1
  have hts := hk.1.2.2.2.2
  have hS : va_S (zAd g) s.heap s.heap [] := va_S.rf
  have hl : lv_has ls 2 [(0, va_rf (some h0))] := hl
  unfold wp_X11_named at hw
  refine zr_aload_n (r := some h0) hx hb dX11_named_0 rfl (lv_at hl 0 rfl) ?_
  refine zw_ldcS hk 1 rfl dX11_named_1 ?_
  obtain ⟨hcl, hsl, hw⟩ := hw
  obtain ⟨a_170, ci_171, fs_172, er, he, hc, hw⟩ := zo_e hw
  obtain rfl := List.mem_singleton.mp hc
  refine zr_calli (zw_runV (As := [va_rf (some (g.2.2.2.2 1))]) hk hH hz hS hl.1 er hw (cwV 1 hts (lw_V q1544 q1546 qs31 q170 q1547) rfl rfl rfl (by decide +kernel) (z_room (Nat.le_of_ble_eq_true rfl))) he rfl rfl rfl (Nat.le_of_ble_eq_true rfl) dX11_named_3 ⟨hcl, hsl⟩) hS (fun x_3 hp_1 nx_2 hw H locs hH hz hS => ?_)
  refine lv_if_eq (tgt := 14) hx hb dX11_named_6 (by decide) (fun hc => ?_) (fun hc => ?_)
  · have hw := hw.1 hc
    refine zr_aload_n (r := some h0) hx hb dX11_named_14 rfl (lv_at hl 0 rfl) ?_
    refine zw_ldcS hk 2 rfl dX11_named_15 ?_
    obtain ⟨hcl, hsl, hw⟩ := hw
    obtain ⟨a_156, ci_157, fs_158, er, he, hc, hw⟩ := zo_e hw
    obtain rfl := List.mem_singleton.mp hc
    refine zr_calli (zw_runV (As := [va_rf (some (g.2.2.2.2 2))]) hk hH hz hS hl.1 er hw (cwV 1 hts (lw_V q1544 q1546 qs31 q170 q1547) rfl rfl rfl (by decide +kernel) (z_room (Nat.le_of_ble_eq_true rfl))) he rfl rfl rfl (Nat.le_of_ble_eq_true rfl) dX11_named_17 ⟨hcl, hsl⟩) hS (fun x_6 hp_4 nx_5 hw H locs hH hz hS => ?_)
    obtain ⟨P_32, hP_32, hw⟩ := hw
    have hJ_32 : ∀ (hp_7 : zHp) (nx_8 : Nat) (kc_9 : Nat) (ks_10 : Nat) (H : Heap) (locs : List Loc) (ls : Array Slot), P_32 hp_7 nx_8 kc_9 ks_10 → lv_has ls 2 [(0, va_rf (some h0))] → zHd g hp_7 H → H.size = nx_8 → va_S (zAd g) s.heap H locs → W p l e (zrm (d + 1) mc ms) s m ([.ref h0] : List Value).toArray below meth c H locs kc_9 ks_10 (vy_MQ below (zQq g Post) (zXC g "WhatIfSheet$Fault" PostX) ([.ref h0] : List Value).toArray s mc ms (zAd g)) (F0 m 32 ls []) := by
      intro hp_7 nx_8 kc_9 ks_10 H locs ls hw hl hH hz hS
      have hw := hP_32 hp_7 nx_8 kc_9 ks_10 hw
      refine zr_aload_n (r := some h0) hx hb dX11_named_32 rfl (lv_at hl 0 rfl) ?_
      refine zr_aload_n (r := some h0) hx hb dX11_named_33 rfl (lv_at hl 0 rfl) ?_
      refine zw_ldcS hk 2 rfl dX11_named_34 ?_
      obtain ⟨hcl, hsl, hw⟩ := hw
      obtain ⟨a_25, ci_26, fs_27, er, he, hc, hw⟩ := zo_e hw
      obtain rfl := List.mem_singleton.mp hc
      refine zr_calli (zw_runV (As := [va_rf (some (g.2.2.2.2 2))]) hk hH hz hS hl.1 er hw (cwV 1 hts (lw_V q1544 q1546 qs31 q170 q1547) rfl rfl rfl (by decide +kernel) (z_room (Nat.le_of_ble_eq_true rfl))) he rfl rfl rfl (by simp only [List.map_cons, List.map_nil, z_cat]; exact Nat.le_of_ble_eq_true rfl) dX11_named_36 ⟨hcl, hsl⟩) hS (fun x_13 hp_11 nx_12 hw H locs hH hz hS => ?_)
      obtain ⟨c_14, s_15, hcl, hsl, hw⟩ := hw
      obtain ⟨a_22, ci_23, fs_24, er, he, hc, hw⟩ := zo_e hw
      obtain rfl := List.mem_singleton.mp hc
      refine zy_callq (zy_runV (As := [.int x_13]) hk hH hz hS hl.1 er hw (cwV 1 hts (lw_V q1596 q1598 qs37 q170 q1599) rfl rfl rfl (by decide +kernel) (z_room (Nat.le_of_ble_eq_true rfl))) he rfl rfl rfl (Nat.le_of_ble_eq_true rfl) dX11_named_39 ⟨hcl, hsl⟩) hS ?_ (fun r_18 hp_16 nx_17 hw H locs hH hz hS => ?_)
      · intro q_19 hp_20 nx_21 hw H locs hH hz hS hq
        obtain ⟨hkc, hks, hw⟩ := hw
        exact zy_out hk hH hz hS htb hq hw hkc hks
      · obtain ⟨hkc, hks, hw⟩ := hw
        exact vy_ret (zr_aret (r := r_18) hk hr (Or.inl ⟨_, rfl⟩) hH hz hS hw hkc hks dX11_named_42)
    refine lv_if_ne (tgt := 32) hx hb dX11_named_20 (by decide) (fun hc => ?_) (fun hc => ?_)
    · have hw := hw.2 hc
      exact hJ_32 hp_4 nx_5 0 0 _ _ _ hw hl hH hz hS
    · have hw := hw.1 hc
      refine zr_aload_n (r := some h0) hx hb dX11_named_23 rfl (lv_at hl 0 rfl) ?_
      refine zw_ldcS hk 3 rfl dX11_named_24 ?_
      obtain ⟨hcl, hsl, hw⟩ := hw
      obtain ⟨a_153, ci_154, fs_155, er, he, hc, hw⟩ := zo_e hw
      obtain rfl := List.mem_singleton.mp hc
      refine zr_calli (zw_runV (As := [va_rf (some (g.2.2.2.2 3))]) hk hH hz hS hl.1 er hw (cwV 1 hts (lw_V q1544 q1546 qs31 q170 q1547) rfl rfl rfl (by decide +kernel) (z_room (Nat.le_of_ble_eq_true rfl))) he rfl rfl rfl (Nat.le_of_ble_eq_true rfl) dX11_named_26 ⟨hcl, hsl⟩) hS (fun x_30 hp_28 nx_29 hw H locs hH hz hS => ?_)
      refine lv_if_eq (tgt := 43) hx hb dX11_named_29 (by decide) (fun hc => ?_) (fun hc => ?_)
      · have hw := hw.1 hc
        refine zr_aload_n (r := some h0) hx hb dX11_named_43 rfl (lv_at hl 0 rfl) ?_
        refine zw_ldcS hk 4 rfl dX11_named_44 ?_
        obtain ⟨hcl, hsl, hw⟩ := hw
        obtain ⟨a_150, ci_151, fs_152, er, he, hc, hw⟩ := zo_e hw
        obtain rfl := List.mem_singleton.mp hc
        refine zr_calli (zw_runV (As := [va_rf (some (g.2.2.2.2 4))]) hk hH hz hS hl.1 er hw (cwV 1 hts (lw_V q1544 q1546 qs31 q170 q1547) rfl rfl rfl (by decide +kernel) (z_room (Nat.le_of_ble_eq_true rfl))) he rfl rfl rfl (Nat.le_of_ble_eq_true rfl) dX11_named_46 ⟨hcl, hsl⟩) hS (fun x_33 hp_31 nx_32 hw H locs hH hz hS => ?_)
        obtain ⟨P_88, hP_88, hw⟩ := hw
        have hJ_88 : ∀ (hp_34 : zHp) (nx_35 : Nat) (kc_36 : Nat) (ks_37 : Nat) (H : Heap) (locs : List Loc) (ls : Array Slot), P_88 hp_34 nx_35 kc_36 ks_37 → lv_has ls 2 [(0, va_rf (some h0))] → zHd g hp_34 H → H.size = nx_35 → va_S (zAd g) s.heap H locs → W p l e (zrm (d + 1) mc ms) s m ([.ref h0] : List Value).toArray below meth c H locs kc_36 ks_37 (vy_MQ below (zQq g Post) (zXC g "WhatIfSheet$Fault" PostX) ([.ref h0] : List Value).toArray s mc ms (zAd g)) (F0 m 88 ls []) := by
          intro hp_34 nx_35 kc_36 ks_37 H locs ls hw hl hH hz hS
          have hw := hP_88 hp_34 nx_35 kc_36 ks_37 hw
          refine zr_aload_n (r := some h0) hx hb dX11_named_88 rfl (lv_at hl 0 rfl) ?_
          refine zr_aload_n (r := some h0) hx hb dX11_named_89 rfl (lv_at hl 0 rfl) ?_
          obtain ⟨a_38, ci_39, fs_40, r_41, er, he, hc, hv, hw⟩ := zgR_e hw
          refine zw_get hk hH er he hv (fk_X11_52 hc) dX11_named_90 ?_
          obtain ⟨c_42, s_43, hcl, hsl, hw⟩ := hw
          obtain ⟨a_50, ci_51, fs_52, er, he, hc, hw⟩ := zo_e hw
          obtain rfl := List.mem_singleton.mp hc
          refine zy_callq (zy_runV (As := [va_rf r_41]) hk hH hz hS hl.1 er hw (cwV 1 hts (lw_V q1643 q1645 qs38 q170 q1646) rfl rfl rfl (by decide +kernel) (z_room (Nat.le_of_ble_eq_true rfl))) he rfl rfl rfl (Nat.le_of_ble_eq_true rfl) dX11_named_93 ⟨hcl, hsl⟩) hS ?_ (fun r_46 hp_44 nx_45 hw H locs hH hz hS => ?_)
          · intro q_47 hp_48 nx_49 hw H locs hH hz hS hq
            obtain ⟨hkc, hks, hw⟩ := hw
            exact zy_out hk hH hz hS htb hq hw hkc hks
          · obtain ⟨hkc, hks, hw⟩ := hw
            exact vy_ret (zr_aret (r := r_46) hk hr (Or.inl ⟨_, rfl⟩) hH hz hS hw hkc hks dX11_named_96)
        refine lv_if_ne (tgt := 88) hx hb dX11_named_49 (by decide) (fun hc => ?_) (fun hc => ?_)
        · have hw := hw.2 hc
          exact hJ_88 hp_31 nx_32 0 0 _ _ _ hw hl hH hz hS
        · have hw := hw.1 hc
          refine zr_aload_n (r := some h0) hx hb dX11_named_52 rfl (lv_at hl 0 rfl) ?_
          refine zw_ldcS hk 5 rfl dX11_named_53 ?_
          obtain ⟨hcl, hsl, hw⟩ := hw
          obtain ⟨a_147, ci_148, fs_149, er, he, hc, hw⟩ := zo_e hw
          obtain rfl := List.mem_singleton.mp hc
          refine zr_calli (zw_runV (As := [va_rf (some (g.2.2.2.2 5))]) hk hH hz hS hl.1 er hw (cwV 1 hts (lw_V q1544 q1546 qs31 q170 q1547) rfl rfl rfl (by decide +kernel) (z_room (Nat.le_of_ble_eq_true rfl))) he rfl rfl rfl (Nat.le_of_ble_eq_true rfl) dX11_named_55 ⟨hcl, hsl⟩) hS (fun x_55 hp_53 nx_54 hw H locs hH hz hS => ?_)
          refine lv_if_ne (tgt := 88) hx hb dX11_named_58 (by decide) (fun hc => ?_) (fun hc => ?_)
          · have hw := hw.2 hc
            exact hJ_88 hp_53 nx_54 0 0 _ _ _ hw hl hH hz hS
          · have hw := hw.1 hc
            refine zr_aload_n (r := some h0) hx hb dX11_named_61 rfl (lv_at hl 0 rfl) ?_
            refine zw_ldcS hk 6 rfl dX11_named_62 ?_
            obtain ⟨hcl, hsl, hw⟩ := hw
            obtain ⟨a_144, ci_145, fs_146, er, he, hc, hw⟩ := zo_e hw
            obtain rfl := List.mem_singleton.mp hc
            refine zr_calli (zw_runV (As := [va_rf (some (g.2.2.2.2 6))]) hk hH hz hS hl.1 er hw (cwV 1 hts (lw_V q1544 q1546 qs31 q170 q1547) rfl rfl rfl (by decide +kernel) (z_room (Nat.le_of_ble_eq_true rfl))) he rfl rfl rfl (Nat.le_of_ble_eq_true rfl) dX11_named_64 ⟨hcl, hsl⟩) hS (fun x_58 hp_56 nx_57 hw H locs hH hz hS => ?_)
            refine lv_if_ne (tgt := 88) hx hb dX11_named_67 (by decide) (fun hc => ?_) (fun hc => ?_)
            · have hw := hw.2 hc
              exact hJ_88 hp_56 nx_57 0 0 _ _ _ hw hl hH hz hS
            · have hw := hw.1 hc
              refine zr_aload_n (r := some h0) hx hb dX11_named_70 rfl (lv_at hl 0 rfl) ?_
              refine zw_ldcS hk 7 rfl dX11_named_71 ?_
              obtain ⟨hcl, hsl, hw⟩ := hw
              obtain ⟨a_141, ci_142, fs_143, er, he, hc, hw⟩ := zo_e hw
              obtain rfl := List.mem_singleton.mp hc
              refine zr_calli (zw_runV (As := [va_rf (some (g.2.2.2.2 7))]) hk hH hz hS hl.1 er hw (cwV 1 hts (lw_V q1544 q1546 qs31 q170 q1547) rfl rfl rfl (by decide +kernel) (z_room (Nat.le_of_ble_eq_true rfl))) he rfl rfl rfl (Nat.le_of_ble_eq_true rfl) dX11_named_73 ⟨hcl, hsl⟩) hS (fun x_61 hp_59 nx_60 hw H locs hH hz hS => ?_)
              refine lv_if_ne (tgt := 88) hx hb dX11_named_76 (by decide) (fun hc => ?_) (fun hc => ?_)
              · have hw := hw.2 hc
                exact hJ_88 hp_59 nx_60 0 0 _ _ _ hw hl hH hz hS
              · have hw := hw.1 hc
                refine zr_aload_n (r := some h0) hx hb dX11_named_79 rfl (lv_at hl 0 rfl) ?_
                refine zw_ldcS hk 8 rfl dX11_named_80 ?_
                obtain ⟨hcl, hsl, hw⟩ := hw
                obtain ⟨a_138, ci_139, fs_140, er, he, hc, hw⟩ := zo_e hw
                obtain rfl := List.mem_singleton.mp hc
                refine zr_calli (zw_runV (As := [va_rf (some (g.2.2.2.2 8))]) hk hH hz hS hl.1 er hw (cwV 1 hts (lw_V q1544 q1546 qs31 q170 q1547) rfl rfl rfl (by decide +kernel) (z_room (Nat.le_of_ble_eq_true rfl))) he rfl rfl rfl (Nat.le_of_ble_eq_true rfl) dX11_named_82 ⟨hcl, hsl⟩) hS (fun x_64 hp_62 nx_63 hw H locs hH hz hS => ?_)
                refine lv_if_eq (tgt := 97) hx hb dX11_named_85 (by decide) (fun hc => ?_) (fun hc => ?_)
                · have hw := hw.1 hc
                  refine zr_aload_n (r := some h0) hx hb dX11_named_97 rfl (lv_at hl 0 rfl) ?_
                  obtain ⟨a_65, ci_66, fs_67, r_68, er, he, hc, hv, hw⟩ := zgR_e hw
                  refine zw_get hk hH er he hv (fk_X11_52 hc) dX11_named_98 ?_
                  obtain ⟨hcl, hsl, hw⟩ := hw
                  obtain ⟨a_135, ci_136, fs_137, er, he, hc, hw⟩ := zo_e hw
                  obtain rfl := List.mem_singleton.mp hc
                  refine zr_calli (zw_runV (As := []) hk hH hz hS hl.1 er hw (cwV 0 hts (lw_V q1801 q465 q466 q140 q467) rfl rfl rfl (by decide +kernel) (z_room (Nat.le_of_ble_eq_true rfl))) he rfl rfl rfl (Nat.le_of_ble_eq_true rfl) dX11_named_101 ⟨hcl, hsl⟩) hS (fun x_71 hp_69 nx_70 hw H locs hH hz hS => ?_)
                  refine lv_iconst (v := (1 : Int32)) hx hb dX11_named_104 (by decide) ?_
                  obtain ⟨P_123, hP_123, hw⟩ := hw
                  have hJ_123 : ∀ (x_72 : Int32) (hp_73 : zHp) (nx_74 : Nat) (kc_75 : Nat) (ks_76 : Nat) (H : Heap) (locs : List Loc) (ls : Array Slot), P_123 x_72 hp_73 nx_74 kc_75 ks_76 → lv_has ls 2 [(0, va_rf (some h0))] → zHd g hp_73 H → H.size = nx_74 → va_S (zAd g) s.heap H locs → W p l e (zrm (d + 1) mc ms) s m ([.ref h0] : List Value).toArray below meth c H locs kc_75 ks_76 (vy_MQ below (zQq g Post) (zXC g "WhatIfSheet$Fault" PostX) ([.ref h0] : List Value).toArray s mc ms (zAd g)) (F0 m 123 ls [.int x_72]) := by
                    intro x_72 hp_73 nx_74 kc_75 ks_76 H locs ls hw hl hH hz hS
                    have hw := hP_123 x_72 hp_73 nx_74 kc_75 ks_76 hw
                    refine lv_istore_n (i := 1) (lv' := [(1, .int x_72), (0, va_rf (some h0))]) hx hb dX11_named_123 rfl hl (by decide) (by first | rfl | simp [List.filter_cons, z_cat, z_catI, z_catJ, z_catF, z_catD]) (fun ls hl => ?_)
                    refine lv_iload_n hx hb dX11_named_124 rfl (lv_at hl 0 rfl) ?_
                    obtain ⟨hcl, hsl, hw⟩ := hw
                    refine zr_calli (zr_runSN (As := [.int x_72]) hk hH hz hS hl.1 hw ⟨va_cnB 1 hts (lw_meth q1319) rfl rfl rfl (hk.2.2.1.1 _ q1813 rfl) (hts _ q131) (by decide +kernel) (z_room (Nat.le_of_ble_eq_true rfl)), hts _ q1318, trivial⟩ rfl rfl (Nat.le_of_ble_eq_true rfl) dX11_named_125 ⟨hcl, hsl⟩) hS (fun x_79 hp_77 nx_78 hw H locs hH hz hS => ?_)
                    refine lv_if_ne (tgt := 136) hx hb dX11_named_128 (by decide) (fun hc => ?_) (fun hc => ?_)
                    · have hw := hw.2 hc
                      refine zr_aload_n (r := some h0) hx hb dX11_named_136 rfl (lv_at hl 1 rfl) ?_
                      obtain ⟨a_80, ci_81, fs_82, r_83, er, he, hc, hv, hw⟩ := zgR_e hw
                      refine zw_get hk hH er he hv (fk_X11_20 hc) dX11_named_137 ?_
                      refine lv_iload_n hx hb dX11_named_140 rfl (lv_at hl 0 rfl) ?_
                      obtain ⟨c_84, s_85, hcl, hsl, hw⟩ := hw
                      obtain ⟨a_111, ci_112, fs_113, er, he, hc, hw⟩ := zo_e hw
                      obtain rfl := List.mem_singleton.mp hc
                      refine zr_callv (zw_runV (As := [.int x_72]) hk hH hz hS hl.1 er hw (cwV 1 hts (lw_V q1814 q924 q925 q133 q926) rfl rfl rfl (by decide +kernel) (z_room (Nat.le_of_ble_eq_true rfl))) he rfl rfl rfl (Nat.le_of_ble_eq_true rfl) dX11_named_141 ⟨hcl, hsl⟩) hS (fun hp_86 nx_87 hw H locs hH hz hS => ?_)
                      refine zr_aload_n (r := some h0) hx hb dX11_named_144 rfl (lv_at hl 1 rfl) ?_
                      obtain ⟨c_88, s_89, hcl, hsl, hw⟩ := hw
                      obtain ⟨a_108, ci_109, fs_110, er, he, hc, hw⟩ := zo_e hw
                      obtain rfl := List.mem_singleton.mp hc
                      refine zy_callv (zy_runV (As := []) hk hH hz hS hl.1 er hw (cwV 0 hts (lw_V q1393 q1395 qs20 q170 q1396) rfl rfl rfl (by decide +kernel) (z_room (Nat.le_of_ble_eq_true rfl))) he rfl rfl rfl (Nat.le_of_ble_eq_true rfl) dX11_named_145 ⟨hcl, hsl⟩) hS ?_ (fun hp_90 nx_91 hw H locs hH hz hS => ?_)
                      · intro q_105 hp_106 nx_107 hw H locs hH hz hS hq
                        obtain ⟨hkc, hks, hw⟩ := hw
                        exact zy_out hk hH hz hS htb hq hw hkc hks
                      · obtain ⟨hcl, hsl, hw⟩ := hw
                        refine zx_new hk hH hz hS (ci := 23) no_X11_221 hcl hsl dX11_named_148 (fun H hH hz hS hlt hnb => ?_)
                        have hw := hw hlt hnb
                        generalize va_up hp_90 nx_91 _ = hp_92 at hH hw
                        obtain ⟨kc_94, ekc⟩ : ∃ k, k = (((kc_75 + c_84) + c_88) + 1) := ⟨_, rfl⟩
                        obtain ⟨ks_95, eks⟩ : ∃ k, k = (((ks_76 + s_85) + s_89) + zNn 23) := ⟨_, rfl⟩
                        have hw := hw _ _ _ rfl ekc eks
                        refine W.widen (Nat.le_of_eq ekc.symm) (Nat.le_of_eq eks.symm) ?_
                        clear ekc eks
                        generalize (nx_91 + 1) = nx_93 at hz hw
                        refine lv_dup hx hb dX11_named_151 (z_cat _) ?_
                        refine zr_aload_n (r := some h0) hx hb dX11_named_152 rfl (lv_at hl 1 rfl) ?_
                        obtain ⟨a_96, ci_97, fs_98, r_99, er, he, hc, hv, hw⟩ := zgR_e hw
                        refine zw_get hk hH er he hv (fk_X11_3 hc) dX11_named_153 ?_
                        refine lv_iload_n hx hb dX11_named_156 rfl (lv_at hl 0 rfl) ?_
                        obtain ⟨hcl, hsl, hw⟩ := hw
                        refine zr_callv (zw_runI (As := [va_rf r_99, .int x_72]) (r := some nx_91) hk hH hz hS hl.1 rfl hw (cwI 2 hts (lw_meth q1819) rfl rfl rfl (hts _ q187) (hts _ q1817) (hts _ q1818) rfl (by decide +kernel) (z_room (Nat.le_of_ble_eq_true rfl))) rfl rfl (by simp only [List.map_cons, List.map_nil, z_cat]; exact Nat.le_of_ble_eq_true rfl) dX11_named_157 ⟨hcl, hsl⟩) hS (fun hp_100 nx_101 hw H locs hH hz hS => ?_)
                        obtain ⟨hkc, hks, hw⟩ := hw
                        exact vy_ret (zr_aret (r := some nx_91) hk hr (Or.inl ⟨_, rfl⟩) hH hz hS hw hkc hks dX11_named_160)
                    · have hw := hw.1 hc
                      refine zr_aload_n (r := some h0) hx hb dX11_named_131 rfl (lv_at hl 1 rfl) ?_
                      obtain ⟨c_114, s_115, hcl, hsl, hw⟩ := hw
                      obtain ⟨a_122, ci_123, fs_124, er, he, hc, hw⟩ := zo_e hw
                      obtain rfl := List.mem_singleton.mp hc
                      refine zr_callq (zw_runV (As := []) hk hH hz hS hl.1 er hw (cwV 0 hts (lw_V q1446 q1448 qs25 q170 q1449) rfl rfl rfl (by decide +kernel) (z_room (Nat.le_of_ble_eq_true rfl))) he rfl rfl rfl (Nat.le_of_ble_eq_true rfl) dX11_named_132 ⟨hcl, hsl⟩) hS (fun r_118 hp_116 nx_117 hw H locs hH hz hS => ?_)
                      obtain ⟨a_119, ci_120, fs_121, er, he, hc, hkc, hks, hw⟩ := zo_e hw
                      obtain rfl := List.mem_singleton.mp hc
                      exact zy_athrow hk hH hz hS htb er he rfl hw hkc hks dX11_named_135
                  refine lv_icmp_ne (tgt := 122) hx hb dX11_named_105 (by decide) (fun hc => ?_) (fun hc => ?_)
                  · have hw := hw.2 hc
                    refine lv_iconst (v := (-1 : Int32)) hx hb dX11_named_122 (by decide) ?_
                    exact hJ_123 (-1 : Int32) hp_69 nx_70 0 0 _ _ _ hw hl hH hz hS
                  · have hw := hw.1 hc
                    refine zr_aload_n (r := some h0) hx hb dX11_named_108 rfl (lv_at hl 0 rfl) ?_
                    obtain ⟨a_125, ci_126, fs_127, r_128, er, he, hc, hv, hw⟩ := zgR_e hw
                    refine zw_get hk hH er he hv (fk_X11_52 hc) dX11_named_109 ?_
                    refine lv_iconst (v := (0 : Int32)) hx hb dX11_named_112 (by decide) ?_
                    obtain ⟨hcl, hsl, hw⟩ := hw
                    obtain ⟨a_132, ci_133, fs_134, er, he, hc, hw⟩ := zo_e hw
                    obtain rfl := List.mem_singleton.mp hc
                    refine zr_calli (zw_runV (As := [.int (0 : Int32)]) hk hH hz hS hl.1 er hw (cwV 1 hts (lw_V q1802 q1803 q1804 q140 q1805) rfl rfl rfl (by decide +kernel) (z_room (Nat.le_of_ble_eq_true rfl))) he rfl rfl rfl (Nat.le_of_ble_eq_true rfl) dX11_named_113 ⟨hcl, hsl⟩) hS (fun x_131 hp_129 nx_130 hw H locs hH hz hS => ?_)
                    refine lv_bipush (v := (97 : Int32)) hx hb dX11_named_116 (by decide) ?_
                    refine lv_isub hx hb dX11_named_118 ?_
                    refine lv_goto (tgt := 123) hx hb dX11_named_119 (by decide) ?_
                    exact hJ_123 (x_131 - (97 : Int32)) hp_129 nx_130 0 0 _ _ _ hw hl hH hz hS
                · have hw := hw.2 hc
                  exact hJ_88 hp_62 nx_63 0 0 _ _ _ hw hl hH hz hS
      · have hw := hw.2 hc
        exact hJ_32 hp_28 nx_29 0 0 _ _ _ hw hl hH hz hS
  · have hw := hw.2 hc
    refine zr_aload_n (r := some h0) hx hb dX11_named_9 rfl (lv_at hl 0 rfl) ?_
    obtain ⟨c_159, s_160, hcl, hsl, hw⟩ := hw
    obtain ⟨a_167, ci_168, fs_169, er, he, hc, hw⟩ := zo_e hw
    obtain rfl := List.mem_singleton.mp hc
    refine zy_callq (zy_runV (As := []) hk hH hz hS hl.1 er hw (cwV 0 hts (lw_V q1549 q1551 qs32 q170 q1552) rfl rfl rfl (by decide +kernel) (z_room (Nat.le_of_ble_eq_true rfl))) he rfl rfl rfl (Nat.le_of_ble_eq_true rfl) dX11_named_10 ⟨hcl, hsl⟩) hS ?_ (fun r_163 hp_161 nx_162 hw H locs hH hz hS => ?_)
    · intro q_164 hp_165 nx_166 hw H locs hH hz hS hq
      obtain ⟨hkc, hks, hw⟩ := hw
      exact zy_out hk hH hz hS htb hq hw hkc hks
    · obtain ⟨hkc, hks, hw⟩ := hw
      exact vy_ret (zr_aret (r := r_163) hk hr (Or.inl ⟨_, rfl⟩) hH hz hS hw hkc hks dX11_named_13)
def wp_X11_is (l : Launch) (g : zG) (d : Nat) (h0 : Nat) (r1 : Option Nat) (hp : zHp) (nx : Nat) (Post : Int32 → zHp → Nat → Prop) : Prop :=
  (zgR hp (some h0) [11] 3 fun r_4 =>
  (zo hp r1 [40] fun a_8 ci_9 fs_10 => zMt l g yJ7_equals cJ7_equals 3 (some .boolean) d 0 0 (.ref a_8 :: [va_rf r_4]) hp nx (zQi g fun x_7 hp_5 nx_6 =>
  (((x_7 = 0 ∨ x_7 = 1) ∧ Post x_7 hp_5 nx_6)))))
set_option maxHeartbeats 40000000 in
theorem met_X11_is {l : Launch} {g : zG} {d : Nat} {h0 : Nat} {r1 : Option Nat} {hp : zHp} {nx : Nat} {Post : Int32 → zHp → Nat → Prop} (hw : wp_X11_is l g d h0 r1 hp nx Post) : zMt l g yX11_is cX11_is 2 (some .boolean) (d + 1) 0 0 [.ref h0, va_rf r1] hp nx (zQi g Post) := by
  refine z_start (by decide) (by cases r1 <;> exact Nat.le_of_ble_eq_true rfl) ?_
  intro p e s m below meth c hk hr hin hH hz ls hl
  have hx := hk.1.1
  have hb := hk.1.2.1
  have hown := hk.1.2.2.2.1
  have hts := hk.1.2.2.2.2
  have hS : va_S (zAd g) s.heap s.heap [] := va_S.rf
  have hl : lv_has ls 2 [(0, va_rf (some h0)), (1, va_rf r1)] := by cases r1 <;> exact hl
  unfold wp_X11_is at hw
  refine zr_aload_n (r := r1) hx hb dX11_is_0 rfl (lv_at hl 1 rfl) ?_
  refine zr_aload_n (r := some h0) hx hb dX11_is_1 rfl (lv_at hl 0 rfl) ?_
  obtain ⟨a_1, ci_2, fs_3, r_4, er, he, hc, hv, hw⟩ := zgR_e hw
  refine zw_get hk hH er he hv (fk_X11_52 hc) dX11_is_2 ?_
  obtain ⟨a_8, ci_9, fs_10, er, he, hc, hw⟩ := zo_e hw
  obtain rfl := List.mem_singleton.mp hc
  refine zr_calli (zw_runV (As := [va_rf r_4]) hk hH hz hS hl.1 er hw (cwV 1 hts (lw_V q1548 q811 q3358 q140 q812) rfl rfl rfl (by decide +kernel) (z_room (Nat.le_of_ble_eq_true rfl))) he rfl rfl rfl (Nat.le_of_ble_eq_true rfl) dX11_is_5 ⟨Nat.le_of_ble_eq_true rfl, Nat.le_of_ble_eq_true rfl⟩) hS (fun x_7 hp_5 nx_6 hw H locs hH hz hS => ?_)
  exact zr_zret hk hr hH hz hS hw.1 hw.2 (Nat.le_of_ble_eq_true rfl) (Nat.le_of_ble_eq_true rfl) dX11_is_8
theorem no_X11_174 : zNo "WhatIfSheet$Reader" 174 14 := ⟨RX14, TX14, 5, rfl, q1569, q1570, q177⟩
def wp_X11_pick (l : Launch) (g : zG) (d : Nat) (mc ms : Nat) (h0 : Nat) (hp : zHp) (nx : Nat) (Post : Option Nat → zHp → Nat → Prop) (PostX : Nat → zHp → Nat → Prop) : Prop :=
  (∃ c_1 s_2 : Nat, 0 + c_1 ≤ mc ∧ 0 + s_2 ≤ ms ∧ zo hp (some h0) [11] fun a_94 ci_95 fs_96 => zMx l g yX11_next cX11_next 1 none d c_1 s_2 (.ref a_94 :: []) hp nx (zQv g fun hp_3 nx_4 =>
  (∃ c_5 s_6 : Nat, (0 + c_1) + c_5 ≤ mc ∧ (0 + s_2) + s_6 ≤ ms ∧ zo hp_3 (some h0) [11] fun a_88 ci_89 fs_90 => zMx l g yX11_opensRound cX11_opensRound 1 none d c_5 s_6 (.ref a_88 :: []) hp_3 nx_4 (zQv g fun hp_7 nx_8 =>
  (∃ c_9 s_10 : Nat, ((0 + c_1) + c_5) + c_9 ≤ mc ∧ ((0 + s_2) + s_6) + s_10 ≤ ms ∧ zo hp_7 (some h0) [11] fun a_82 ci_83 fs_84 => zMx l g yX11_even cX11_even 3 (some (.object "WhatIfSheet$Node")) d c_9 s_10 (.ref a_82 :: []) hp_7 nx_8 (zQq g fun r_13 hp_11 nx_12 =>
  (∃ c_14 s_15 : Nat, (((0 + c_1) + c_5) + c_9) + c_14 ≤ mc ∧ (((0 + s_2) + s_6) + s_10) + s_15 ≤ ms ∧ zo hp_11 (some h0) [11] fun a_76 ci_77 fs_78 => zMx l g yX11_takes cX11_takes 2 none d c_14 s_15 (.ref a_76 :: [.int (44 : Int32)]) hp_11 nx_12 (zQv g fun hp_16 nx_17 =>
  (∃ c_18 s_19 : Nat, ((((0 + c_1) + c_5) + c_9) + c_14) + c_18 ≤ mc ∧ ((((0 + s_2) + s_6) + s_10) + s_15) + s_19 ≤ ms ∧ zo hp_16 (some h0) [11] fun a_70 ci_71 fs_72 => zMx l g yX11_even cX11_even 3 (some (.object "WhatIfSheet$Node")) d c_18 s_19 (.ref a_70 :: []) hp_16 nx_17 (zQq g fun r_22 hp_20 nx_21 =>
  (∃ c_23 s_24 : Nat, (((((0 + c_1) + c_5) + c_9) + c_14) + c_18) + c_23 ≤ mc ∧ (((((0 + s_2) + s_6) + s_10) + s_15) + s_19) + s_24 ≤ ms ∧ zo hp_20 (some h0) [11] fun a_64 ci_65 fs_66 => zMx l g yX11_takes cX11_takes 2 none d c_23 s_24 (.ref a_64 :: [.int (44 : Int32)]) hp_20 nx_21 (zQv g fun hp_25 nx_26 =>
  (∃ c_27 s_28 : Nat, ((((((0 + c_1) + c_5) + c_9) + c_14) + c_18) + c_23) + c_27 ≤ mc ∧ ((((((0 + s_2) + s_6) + s_10) + s_15) + s_19) + s_24) + s_28 ≤ ms ∧ zo hp_25 (some h0) [11] fun a_58 ci_59 fs_60 => zMx l g yX11_even cX11_even 3 (some (.object "WhatIfSheet$Node")) d c_27 s_28 (.ref a_58 :: []) hp_25 nx_26 (zQq g fun r_31 hp_29 nx_30 =>
  (∃ c_32 s_33 : Nat, (((((((0 + c_1) + c_5) + c_9) + c_14) + c_18) + c_23) + c_27) + c_32 ≤ mc ∧ (((((((0 + s_2) + s_6) + s_10) + s_15) + s_19) + s_24) + s_28) + s_33 ≤ ms ∧ zo hp_29 (some h0) [11] fun a_52 ci_53 fs_54 => zMx l g yX11_closes cX11_closes 1 none d c_32 s_33 (.ref a_52 :: []) hp_29 nx_30 (zQv g fun hp_34 nx_35 =>
  (znw g mc ms hp_34 nx_35 ((((((((0 + c_1) + c_5) + c_9) + c_14) + c_18) + c_23) + c_27) + c_32) ((((((((0 + s_2) + s_6) + s_10) + s_15) + s_19) + s_24) + s_28) + s_33) 14 fun hp_36 =>
  ∀ nx_37 kc_38 ks_39 : Nat, nx_37 = (nx_35 + 1) → kc_38 = (((((((((0 + c_1) + c_5) + c_9) + c_14) + c_18) + c_23) + c_27) + c_32) + 1) → ks_39 = (((((((((0 + s_2) + s_6) + s_10) + s_15) + s_19) + s_24) + s_28) + s_33) + zNn 14) →
  (zgR hp_36 (some h0) [11] 9 fun r_43 =>
  (kc_38 ≤ mc ∧ ks_39 ≤ ms ∧ zMt l g yX14_init cX14_init 5 none d 0 0 (.ref nx_35 :: [va_rf r_43, va_rf r_13, va_rf r_22, va_rf r_31]) hp_36 nx_37 (zQv g fun hp_44 nx_45 =>
  (kc_38 ≤ mc ∧ ks_39 ≤ ms ∧ Post (some nx_35) hp_44 nx_45)))))) "WhatIfSheet$Fault" (fun q_49 hp_50 nx_51 => ((((((((0 + c_1) + c_5) + c_9) + c_14) + c_18) + c_23) + c_27) + c_32) ≤ mc ∧ ((((((((0 + s_2) + s_6) + s_10) + s_15) + s_19) + s_24) + s_28) + s_33) ≤ ms ∧ PostX q_49 hp_50 nx_51))) "WhatIfSheet$Fault" (fun q_55 hp_56 nx_57 => (((((((0 + c_1) + c_5) + c_9) + c_14) + c_18) + c_23) + c_27) ≤ mc ∧ (((((((0 + s_2) + s_6) + s_10) + s_15) + s_19) + s_24) + s_28) ≤ ms ∧ PostX q_55 hp_56 nx_57))) "WhatIfSheet$Fault" (fun q_61 hp_62 nx_63 => ((((((0 + c_1) + c_5) + c_9) + c_14) + c_18) + c_23) ≤ mc ∧ ((((((0 + s_2) + s_6) + s_10) + s_15) + s_19) + s_24) ≤ ms ∧ PostX q_61 hp_62 nx_63))) "WhatIfSheet$Fault" (fun q_67 hp_68 nx_69 => (((((0 + c_1) + c_5) + c_9) + c_14) + c_18) ≤ mc ∧ (((((0 + s_2) + s_6) + s_10) + s_15) + s_19) ≤ ms ∧ PostX q_67 hp_68 nx_69))) "WhatIfSheet$Fault" (fun q_73 hp_74 nx_75 => ((((0 + c_1) + c_5) + c_9) + c_14) ≤ mc ∧ ((((0 + s_2) + s_6) + s_10) + s_15) ≤ ms ∧ PostX q_73 hp_74 nx_75))) "WhatIfSheet$Fault" (fun q_79 hp_80 nx_81 => (((0 + c_1) + c_5) + c_9) ≤ mc ∧ (((0 + s_2) + s_6) + s_10) ≤ ms ∧ PostX q_79 hp_80 nx_81))) "WhatIfSheet$Fault" (fun q_85 hp_86 nx_87 => ((0 + c_1) + c_5) ≤ mc ∧ ((0 + s_2) + s_6) ≤ ms ∧ PostX q_85 hp_86 nx_87))) "WhatIfSheet$Fault" (fun q_91 hp_92 nx_93 => (0 + c_1) ≤ mc ∧ (0 + s_2) ≤ ms ∧ PostX q_91 hp_92 nx_93))
set_option maxHeartbeats 40000000 in
theorem met_X11_pick {l : Launch} {g : zG} {d : Nat} {mc ms : Nat} {h0 : Nat} {hp : zHp} {nx : Nat} {Post : Option Nat → zHp → Nat → Prop} {PostX : Nat → zHp → Nat → Prop} (hw : wp_X11_pick l g d mc ms h0 hp nx Post PostX) : zMx l g yX11_pick cX11_pick 4 (some (.object "WhatIfSheet$Node")) (d + 1) mc ms [.ref h0] hp nx (zQq g Post) "WhatIfSheet$Fault" PostX := by
  refine zy_start (by decide) (Nat.le_of_ble_eq_true rfl) ?_
  intro p e s m below meth c hk hr hin htb hH hz ls hl
  have hx := hk.1.1
  have hb := hk.1.2.1
  have hown := hk.1.2.2.2.1
  have hts := hk.1.2.2.2.2
  have hS : va_S (zAd g) s.heap s.heap [] := va_S.rf
  have hl : lv_has ls 4 [(0, va_rf (some h0))] := hl
  unfold wp_X11_pick at hw
  refine zr_aload_n (r := some h0) hx hb dX11_pick_0 rfl (lv_at hl 0 rfl) ?_
  obtain ⟨c_1, s_2, hcl, hsl, hw⟩ := hw
  obtain ⟨a_94, ci_95, fs_96, er, he, hc, hw⟩ := zo_e hw
  obtain rfl := List.mem_singleton.mp hc
  refine zy_callv (zy_runV (As := []) hk hH hz hS hl.1 er hw (cwV 0 hts (lw_V q1393 q1395 qs20 q170 q1396) rfl rfl rfl (by decide +kernel) (z_room (Nat.le_of_ble_eq_true rfl))) he rfl rfl rfl (Nat.le_of_ble_eq_true rfl) dX11_pick_1 ⟨hcl, hsl⟩) hS ?_ (fun hp_3 nx_4 hw H locs hH hz hS => ?_)
  · intro q_91 hp_92 nx_93 hw H locs hH hz hS hq
    obtain ⟨hkc, hks, hw⟩ := hw
    exact zy_out hk hH hz hS htb hq hw hkc hks
  · refine zr_aload_n (r := some h0) hx hb dX11_pick_4 rfl (lv_at hl 0 rfl) ?_
    obtain ⟨c_5, s_6, hcl, hsl, hw⟩ := hw
    obtain ⟨a_88, ci_89, fs_90, er, he, hc, hw⟩ := zo_e hw
    obtain rfl := List.mem_singleton.mp hc
    refine zy_callv (zy_runV (As := []) hk hH hz hS hl.1 er hw (cwV 0 hts (lw_V q1553 q1555 qs33 q170 q1556) rfl rfl rfl (by decide +kernel) (z_room (Nat.le_of_ble_eq_true rfl))) he rfl rfl rfl (Nat.le_of_ble_eq_true rfl) dX11_pick_5 ⟨hcl, hsl⟩) hS ?_ (fun hp_7 nx_8 hw H locs hH hz hS => ?_)
    · intro q_85 hp_86 nx_87 hw H locs hH hz hS hq
      obtain ⟨hkc, hks, hw⟩ := hw
      exact zy_out hk hH hz hS htb hq hw hkc hks
    · refine zr_aload_n (r := some h0) hx hb dX11_pick_8 rfl (lv_at hl 0 rfl) ?_
      obtain ⟨c_9, s_10, hcl, hsl, hw⟩ := hw
      obtain ⟨a_82, ci_83, fs_84, er, he, hc, hw⟩ := zo_e hw
      obtain rfl := List.mem_singleton.mp hc
      refine zy_callq (zy_runV (As := []) hk hH hz hS hl.1 er hw (cwV 0 hts (lw_V q1523 q1525 qs26 q170 q1526) rfl rfl rfl (by decide +kernel) (z_room (Nat.le_of_ble_eq_true rfl))) he rfl rfl rfl (Nat.le_of_ble_eq_true rfl) dX11_pick_9 ⟨hcl, hsl⟩) hS ?_ (fun r_13 hp_11 nx_12 hw H locs hH hz hS => ?_)
      · intro q_79 hp_80 nx_81 hw H locs hH hz hS hq
        obtain ⟨hkc, hks, hw⟩ := hw
        exact zy_out hk hH hz hS htb hq hw hkc hks
      · refine zr_astore_n (r := r_13) (i := 1) (lv' := [(1, va_rf r_13), (0, va_rf (some h0))]) hx hb dX11_pick_12 rfl hl (by decide) (by first | rfl | simp [List.filter_cons, z_cat, z_catI, z_catJ, z_catF, z_catD]) (fun ls hl => ?_)
        refine zr_aload_n (r := some h0) hx hb dX11_pick_13 rfl (lv_at hl 1 rfl) ?_
        refine lv_bipush (v := (44 : Int32)) hx hb dX11_pick_14 (by decide) ?_
        obtain ⟨c_14, s_15, hcl, hsl, hw⟩ := hw
        obtain ⟨a_76, ci_77, fs_78, er, he, hc, hw⟩ := zo_e hw
        obtain rfl := List.mem_singleton.mp hc
        refine zy_callv (zy_runV (As := [.int (44 : Int32)]) hk hH hz hS hl.1 er hw (cwV 1 hts (lw_V q1561 q1563 qs35 q170 q1564) rfl rfl rfl (by decide +kernel) (z_room (Nat.le_of_ble_eq_true rfl))) he rfl rfl rfl (Nat.le_of_ble_eq_true rfl) dX11_pick_16 ⟨hcl, hsl⟩) hS ?_ (fun hp_16 nx_17 hw H locs hH hz hS => ?_)
        · intro q_73 hp_74 nx_75 hw H locs hH hz hS hq
          obtain ⟨hkc, hks, hw⟩ := hw
          exact zy_out hk hH hz hS htb hq hw hkc hks
        · refine zr_aload_n (r := some h0) hx hb dX11_pick_19 rfl (lv_at hl 1 rfl) ?_
          obtain ⟨c_18, s_19, hcl, hsl, hw⟩ := hw
          obtain ⟨a_70, ci_71, fs_72, er, he, hc, hw⟩ := zo_e hw
          obtain rfl := List.mem_singleton.mp hc
          refine zy_callq (zy_runV (As := []) hk hH hz hS hl.1 er hw (cwV 0 hts (lw_V q1523 q1525 qs26 q170 q1526) rfl rfl rfl (by decide +kernel) (z_room (Nat.le_of_ble_eq_true rfl))) he rfl rfl rfl (Nat.le_of_ble_eq_true rfl) dX11_pick_20 ⟨hcl, hsl⟩) hS ?_ (fun r_22 hp_20 nx_21 hw H locs hH hz hS => ?_)
          · intro q_67 hp_68 nx_69 hw H locs hH hz hS hq
            obtain ⟨hkc, hks, hw⟩ := hw
            exact zy_out hk hH hz hS htb hq hw hkc hks
          · refine zr_astore_n (r := r_22) (i := 2) (lv' := [(2, va_rf r_22), (1, va_rf r_13), (0, va_rf (some h0))]) hx hb dX11_pick_23 rfl hl (by decide) (by first | rfl | simp [List.filter_cons, z_cat, z_catI, z_catJ, z_catF, z_catD]) (fun ls hl => ?_)
            refine zr_aload_n (r := some h0) hx hb dX11_pick_24 rfl (lv_at hl 2 rfl) ?_
            refine lv_bipush (v := (44 : Int32)) hx hb dX11_pick_25 (by decide) ?_
            obtain ⟨c_23, s_24, hcl, hsl, hw⟩ := hw
            obtain ⟨a_64, ci_65, fs_66, er, he, hc, hw⟩ := zo_e hw
            obtain rfl := List.mem_singleton.mp hc
            refine zy_callv (zy_runV (As := [.int (44 : Int32)]) hk hH hz hS hl.1 er hw (cwV 1 hts (lw_V q1561 q1563 qs35 q170 q1564) rfl rfl rfl (by decide +kernel) (z_room (Nat.le_of_ble_eq_true rfl))) he rfl rfl rfl (Nat.le_of_ble_eq_true rfl) dX11_pick_27 ⟨hcl, hsl⟩) hS ?_ (fun hp_25 nx_26 hw H locs hH hz hS => ?_)
            · intro q_61 hp_62 nx_63 hw H locs hH hz hS hq
              obtain ⟨hkc, hks, hw⟩ := hw
              exact zy_out hk hH hz hS htb hq hw hkc hks
            · refine zr_aload_n (r := some h0) hx hb dX11_pick_30 rfl (lv_at hl 2 rfl) ?_
              obtain ⟨c_27, s_28, hcl, hsl, hw⟩ := hw
              obtain ⟨a_58, ci_59, fs_60, er, he, hc, hw⟩ := zo_e hw
              obtain rfl := List.mem_singleton.mp hc
              refine zy_callq (zy_runV (As := []) hk hH hz hS hl.1 er hw (cwV 0 hts (lw_V q1523 q1525 qs26 q170 q1526) rfl rfl rfl (by decide +kernel) (z_room (Nat.le_of_ble_eq_true rfl))) he rfl rfl rfl (Nat.le_of_ble_eq_true rfl) dX11_pick_31 ⟨hcl, hsl⟩) hS ?_ (fun r_31 hp_29 nx_30 hw H locs hH hz hS => ?_)
              · intro q_55 hp_56 nx_57 hw H locs hH hz hS hq
                obtain ⟨hkc, hks, hw⟩ := hw
                exact zy_out hk hH hz hS htb hq hw hkc hks
              · refine zr_astore_n (r := r_31) (i := 3) (lv' := [(3, va_rf r_31), (2, va_rf r_22), (1, va_rf r_13), (0, va_rf (some h0))]) hx hb dX11_pick_34 rfl hl (by decide) (by first | rfl | simp [List.filter_cons, z_cat, z_catI, z_catJ, z_catF, z_catD]) (fun ls hl => ?_)
                refine zr_aload_n (r := some h0) hx hb dX11_pick_35 rfl (lv_at hl 3 rfl) ?_
                obtain ⟨c_32, s_33, hcl, hsl, hw⟩ := hw
                obtain ⟨a_52, ci_53, fs_54, er, he, hc, hw⟩ := zo_e hw
                obtain rfl := List.mem_singleton.mp hc
                refine zy_callv (zy_runV (As := []) hk hH hz hS hl.1 er hw (cwV 0 hts (lw_V q1565 q1567 qs36 q170 q1568) rfl rfl rfl (by decide +kernel) (z_room (Nat.le_of_ble_eq_true rfl))) he rfl rfl rfl (Nat.le_of_ble_eq_true rfl) dX11_pick_36 ⟨hcl, hsl⟩) hS ?_ (fun hp_34 nx_35 hw H locs hH hz hS => ?_)
                · intro q_49 hp_50 nx_51 hw H locs hH hz hS hq
                  obtain ⟨hkc, hks, hw⟩ := hw
                  exact zy_out hk hH hz hS htb hq hw hkc hks
                · obtain ⟨hcl, hsl, hw⟩ := hw
                  refine zx_new hk hH hz hS (ci := 14) no_X11_174 hcl hsl dX11_pick_39 (fun H hH hz hS hlt hnb => ?_)
                  have hw := hw hlt hnb
                  generalize va_up hp_34 nx_35 _ = hp_36 at hH hw
                  obtain ⟨kc_38, ekc⟩ : ∃ k, k = (((((((((0 + c_1) + c_5) + c_9) + c_14) + c_18) + c_23) + c_27) + c_32) + 1) := ⟨_, rfl⟩
                  obtain ⟨ks_39, eks⟩ : ∃ k, k = (((((((((0 + s_2) + s_6) + s_10) + s_15) + s_19) + s_24) + s_28) + s_33) + zNn 14) := ⟨_, rfl⟩
                  have hw := hw _ _ _ rfl ekc eks
                  refine W.widen (Nat.le_of_eq ekc.symm) (Nat.le_of_eq eks.symm) ?_
                  clear ekc eks
                  generalize (nx_35 + 1) = nx_37 at hz hw
                  refine lv_dup hx hb dX11_pick_42 (z_cat _) ?_
                  refine zr_aload_n (r := some h0) hx hb dX11_pick_43 rfl (lv_at hl 3 rfl) ?_
                  obtain ⟨a_40, ci_41, fs_42, r_43, er, he, hc, hv, hw⟩ := zgR_e hw
                  refine zw_get hk hH er he hv (fk_X11_3 hc) dX11_pick_44 ?_
                  refine zr_aload_n (r := r_13) hx hb dX11_pick_47 rfl (lv_at hl 2 rfl) ?_
                  refine zr_aload_n (r := r_22) hx hb dX11_pick_48 rfl (lv_at hl 1 rfl) ?_
                  refine zr_aload_n (r := r_31) hx hb dX11_pick_49 rfl (lv_at hl 0 rfl) ?_
                  obtain ⟨hcl, hsl, hw⟩ := hw
                  refine zr_callv (zw_runI (As := [va_rf r_43, va_rf r_13, va_rf r_22, va_rf r_31]) (r := some nx_35) hk hH hz hS hl.1 rfl hw (cwI 4 hts (lw_meth q1573) rfl rfl rfl (hts _ q177) (hts _ q1571) (hts _ q1572) rfl (by decide +kernel) (z_room (Nat.le_of_ble_eq_true rfl))) rfl rfl (by simp only [List.map_cons, List.map_nil, z_cat]; exact Nat.le_of_ble_eq_true rfl) dX11_pick_50 ⟨hcl, hsl⟩) hS (fun hp_44 nx_45 hw H locs hH hz hS => ?_)
                  obtain ⟨hkc, hks, hw⟩ := hw
                  exact vy_ret (zr_aret (r := some nx_35) hk hr (Or.inl ⟨_, rfl⟩) hH hz hS hw hkc hks dX11_pick_53)
def wp_X11_opensRound (l : Launch) (g : zG) (d : Nat) (mc ms : Nat) (h0 : Nat) (hp : zHp) (nx : Nat) (Post : zHp → Nat → Prop) (PostX : Nat → zHp → Nat → Prop) : Prop :=
  (zgI hp (some h0) [11] 5 fun x_4 =>
  ((x_4 = (40 : Int32) →
  (∃ c_5 s_6 : Nat, 0 + c_5 ≤ mc ∧ 0 + s_6 ≤ ms ∧ zo hp (some h0) [11] fun a_12 ci_13 fs_14 => zMx l g yX11_opens cX11_opens 1 none d c_5 s_6 (.ref a_12 :: []) hp nx (zQv g fun hp_7 nx_8 =>
  ((0 + c_5) ≤ mc ∧ (0 + s_6) ≤ ms ∧ Post hp_7 nx_8)) "WhatIfSheet$Fault" (fun q_9 hp_10 nx_11 => (0 + c_5) ≤ mc ∧ (0 + s_6) ≤ ms ∧ PostX q_9 hp_10 nx_11))) ∧
  (¬ x_4 = (40 : Int32) →
  (∃ c_15 s_16 : Nat, 0 + c_15 ≤ mc ∧ 0 + s_16 ≤ ms ∧ zo hp (some h0) [11] fun a_23 ci_24 fs_25 => zMt l g yX11_fault cX11_fault 1 (some (.object "WhatIfSheet$Fault")) d c_15 s_16 (.ref a_23 :: []) hp nx (zQq g fun r_19 hp_17 nx_18 =>
  (zo hp_17 r_19 [12] fun a_20 ci_21 fs_22 => (0 + c_15) ≤ mc ∧ (0 + s_16) ≤ ms ∧ PostX a_20 hp_17 nx_18))))))
set_option maxHeartbeats 40000000 in
theorem met_X11_opensRound {l : Launch} {g : zG} {d : Nat} {mc ms : Nat} {h0 : Nat} {hp : zHp} {nx : Nat} {Post : zHp → Nat → Prop} {PostX : Nat → zHp → Nat → Prop} (hw : wp_X11_opensRound l g d mc ms h0 hp nx Post PostX) : zMx l g yX11_opensRound cX11_opensRound 1 none (d + 1) mc ms [.ref h0] hp nx (zQv g Post) "WhatIfSheet$Fault" PostX := by
  refine zy_start (by decide) (Nat.le_of_ble_eq_true rfl) ?_
  intro p e s m below meth c hk hr hin htb hH hz ls hl
  have hx := hk.1.1
  have hb := hk.1.2.1
  have hown := hk.1.2.2.2.1
  have hts := hk.1.2.2.2.2
  have hS : va_S (zAd g) s.heap s.heap [] := va_S.rf
  have hl : lv_has ls 1 [(0, va_rf (some h0))] := hl
  unfold wp_X11_opensRound at hw
  refine zr_aload_n (r := some h0) hx hb dX11_opensRound_0 rfl (lv_at hl 0 rfl) ?_
  obtain ⟨a_1, ci_2, fs_3, x_4, er, he, hc, hv, hw⟩ := zgI_e hw
  refine zw_get hk hH er he hv (fk_X11_59 hc) dX11_opensRound_1 ?_
  refine lv_bipush (v := (40 : Int32)) hx hb dX11_opensRound_4 (by decide) ?_
  refine lv_icmp_eq (tgt := 14) hx hb dX11_opensRound_6 (by decide) (fun hc => ?_) (fun hc => ?_)
  · have hw := hw.1 hc
    refine zr_aload_n (r := some h0) hx hb dX11_opensRound_14 rfl (lv_at hl 0 rfl) ?_
    obtain ⟨c_5, s_6, hcl, hsl, hw⟩ := hw
    obtain ⟨a_12, ci_13, fs_14, er, he, hc, hw⟩ := zo_e hw
    obtain rfl := List.mem_singleton.mp hc
    refine zy_callv (zy_runV (As := []) hk hH hz hS hl.1 er hw (cwV 0 hts (lw_V q1557 q1559 qs34 q170 q1560) rfl rfl rfl (by decide +kernel) (z_room (Nat.le_of_ble_eq_true rfl))) he rfl rfl rfl (Nat.le_of_ble_eq_true rfl) dX11_opensRound_15 ⟨hcl, hsl⟩) hS ?_ (fun hp_7 nx_8 hw H locs hH hz hS => ?_)
    · intro q_9 hp_10 nx_11 hw H locs hH hz hS hq
      obtain ⟨hkc, hks, hw⟩ := hw
      exact zy_out hk hH hz hS htb hq hw hkc hks
    · obtain ⟨hkc, hks, hw⟩ := hw
      exact vy_ret (zr_vret hk hr hH hz hS hw hkc hks dX11_opensRound_18)
  · have hw := hw.2 hc
    refine zr_aload_n (r := some h0) hx hb dX11_opensRound_9 rfl (lv_at hl 0 rfl) ?_
    obtain ⟨c_15, s_16, hcl, hsl, hw⟩ := hw
    obtain ⟨a_23, ci_24, fs_25, er, he, hc, hw⟩ := zo_e hw
    obtain rfl := List.mem_singleton.mp hc
    refine zr_callq (zw_runV (As := []) hk hH hz hS hl.1 er hw (cwV 0 hts (lw_V q1446 q1448 qs25 q170 q1449) rfl rfl rfl (by decide +kernel) (z_room (Nat.le_of_ble_eq_true rfl))) he rfl rfl rfl (Nat.le_of_ble_eq_true rfl) dX11_opensRound_10 ⟨hcl, hsl⟩) hS (fun r_19 hp_17 nx_18 hw H locs hH hz hS => ?_)
    obtain ⟨a_20, ci_21, fs_22, er, he, hc, hkc, hks, hw⟩ := zo_e hw
    obtain rfl := List.mem_singleton.mp hc
    exact zy_athrow hk hH hz hS htb er he rfl hw hkc hks dX11_opensRound_13
def wp_X11_opens (l : Launch) (g : zG) (d : Nat) (mc ms : Nat) (h0 : Nat) (hp : zHp) (nx : Nat) (Post : zHp → Nat → Prop) (PostX : Nat → zHp → Nat → Prop) : Prop :=
  (zgI hp (some h0) [11] 2 fun x_4 =>
  ((x_4 = (4 : Int32) →
  (∃ c_23 s_24 : Nat, 0 + c_23 ≤ mc ∧ 0 + s_24 ≤ ms ∧ zo hp (some h0) [11] fun a_31 ci_32 fs_33 => zMt l g yX11_fault cX11_fault 1 (some (.object "WhatIfSheet$Fault")) d c_23 s_24 (.ref a_31 :: []) hp nx (zQq g fun r_27 hp_25 nx_26 =>
  (zo hp_25 r_27 [12] fun a_28 ci_29 fs_30 => (0 + c_23) ≤ mc ∧ (0 + s_24) ≤ ms ∧ PostX a_28 hp_25 nx_26)))) ∧
  (¬ x_4 = (4 : Int32) →
  (zgI hp (some h0) [11] 2 fun x_8 =>
  (zpt g hp (some h0) [11] 2 (.int (x_8 + (1 : Int32))) fun hp_12 =>
  (∃ c_13 s_14 : Nat, 0 + c_13 ≤ mc ∧ 0 + s_14 ≤ ms ∧ zo hp_12 (some h0) [11] fun a_20 ci_21 fs_22 => zMx l g yX11_next cX11_next 1 none d c_13 s_14 (.ref a_20 :: []) hp_12 nx (zQv g fun hp_15 nx_16 =>
  ((0 + c_13) ≤ mc ∧ (0 + s_14) ≤ ms ∧ Post hp_15 nx_16)) "WhatIfSheet$Fault" (fun q_17 hp_18 nx_19 => (0 + c_13) ≤ mc ∧ (0 + s_14) ≤ ms ∧ PostX q_17 hp_18 nx_19)))))))
set_option maxHeartbeats 40000000 in
theorem met_X11_opens {l : Launch} {g : zG} {d : Nat} {mc ms : Nat} {h0 : Nat} {hp : zHp} {nx : Nat} {Post : zHp → Nat → Prop} {PostX : Nat → zHp → Nat → Prop} (hw : wp_X11_opens l g d mc ms h0 hp nx Post PostX) : zMx l g yX11_opens cX11_opens 1 none (d + 1) mc ms [.ref h0] hp nx (zQv g Post) "WhatIfSheet$Fault" PostX := by
  refine zy_start (by decide) (Nat.le_of_ble_eq_true rfl) ?_
  intro p e s m below meth c hk hr hin htb hH hz ls hl
  have hx := hk.1.1
  have hb := hk.1.2.1
  have hown := hk.1.2.2.2.1
  have hts := hk.1.2.2.2.2
  have hS : va_S (zAd g) s.heap s.heap [] := va_S.rf
  have hl : lv_has ls 1 [(0, va_rf (some h0))] := hl
  unfold wp_X11_opens at hw
  refine zr_aload_n (r := some h0) hx hb dX11_opens_0 rfl (lv_at hl 0 rfl) ?_
  obtain ⟨a_1, ci_2, fs_3, x_4, er, he, hc, hv, hw⟩ := zgI_e hw
  refine zw_get hk hH er he hv (fk_X11_118 hc) dX11_opens_1 ?_
  refine lv_iconst (v := (4 : Int32)) hx hb dX11_opens_4 (by decide) ?_
  refine lv_icmp_ne (tgt := 13) hx hb dX11_opens_5 (by decide) (fun hc => ?_) (fun hc => ?_)
  · have hw := hw.2 hc
    refine zr_aload_n (r := some h0) hx hb dX11_opens_13 rfl (lv_at hl 0 rfl) ?_
    refine lv_dup hx hb dX11_opens_14 (z_cat _) ?_
    obtain ⟨a_5, ci_6, fs_7, x_8, er, he, hc, hv, hw⟩ := zgI_e hw
    refine zw_get hk hH er he hv (fk_X11_118 hc) dX11_opens_15 ?_
    refine lv_iconst (v := (1 : Int32)) hx hb dX11_opens_18 (by decide) ?_
    refine lv_iadd hx hb dX11_opens_19 ?_
    obtain ⟨a_9, ci_10, fs_11, hp_12, er, he, hc, hA, hkl, eh, hw⟩ := zpt_e hw
    refine zw_put hk hH hz hS er he hA hkl eh (fp_X11_118 hc) rfl rfl dX11_opens_20 (fun H locs hH hz hS => ?_)
    refine zr_aload_n (r := some h0) hx hb dX11_opens_23 rfl (lv_at hl 0 rfl) ?_
    obtain ⟨c_13, s_14, hcl, hsl, hw⟩ := hw
    obtain ⟨a_20, ci_21, fs_22, er, he, hc, hw⟩ := zo_e hw
    obtain rfl := List.mem_singleton.mp hc
    refine zy_callv (zy_runV (As := []) hk hH hz hS hl.1 er hw (cwV 0 hts (lw_V q1393 q1395 qs20 q170 q1396) rfl rfl rfl (by decide +kernel) (z_room (Nat.le_of_ble_eq_true rfl))) he rfl rfl rfl (Nat.le_of_ble_eq_true rfl) dX11_opens_24 ⟨hcl, hsl⟩) hS ?_ (fun hp_15 nx_16 hw H locs hH hz hS => ?_)
    · intro q_17 hp_18 nx_19 hw H locs hH hz hS hq
      obtain ⟨hkc, hks, hw⟩ := hw
      exact zy_out hk hH hz hS htb hq hw hkc hks
    · obtain ⟨hkc, hks, hw⟩ := hw
      exact vy_ret (zr_vret hk hr hH hz hS hw hkc hks dX11_opens_27)
  · have hw := hw.1 hc
    refine zr_aload_n (r := some h0) hx hb dX11_opens_8 rfl (lv_at hl 0 rfl) ?_
    obtain ⟨c_23, s_24, hcl, hsl, hw⟩ := hw
    obtain ⟨a_31, ci_32, fs_33, er, he, hc, hw⟩ := zo_e hw
    obtain rfl := List.mem_singleton.mp hc
    refine zr_callq (zw_runV (As := []) hk hH hz hS hl.1 er hw (cwV 0 hts (lw_V q1446 q1448 qs25 q170 q1449) rfl rfl rfl (by decide +kernel) (z_room (Nat.le_of_ble_eq_true rfl))) he rfl rfl rfl (Nat.le_of_ble_eq_true rfl) dX11_opens_9 ⟨hcl, hsl⟩) hS (fun r_27 hp_25 nx_26 hw H locs hH hz hS => ?_)
    obtain ⟨a_28, ci_29, fs_30, er, he, hc, hkc, hks, hw⟩ := zo_e hw
    obtain rfl := List.mem_singleton.mp hc
    exact zy_athrow hk hH hz hS htb er he rfl hw hkc hks dX11_opens_12
def wp_X11_takes (l : Launch) (g : zG) (d : Nat) (mc ms : Nat) (h0 : Nat) (x1 : Int32) (hp : zHp) (nx : Nat) (Post : zHp → Nat → Prop) (PostX : Nat → zHp → Nat → Prop) : Prop :=
  (zgI hp (some h0) [11] 5 fun x_4 =>
  ((x_4 = x1 →
  (∃ c_5 s_6 : Nat, 0 + c_5 ≤ mc ∧ 0 + s_6 ≤ ms ∧ zo hp (some h0) [11] fun a_12 ci_13 fs_14 => zMx l g yX11_next cX11_next 1 none d c_5 s_6 (.ref a_12 :: []) hp nx (zQv g fun hp_7 nx_8 =>
  ((0 + c_5) ≤ mc ∧ (0 + s_6) ≤ ms ∧ Post hp_7 nx_8)) "WhatIfSheet$Fault" (fun q_9 hp_10 nx_11 => (0 + c_5) ≤ mc ∧ (0 + s_6) ≤ ms ∧ PostX q_9 hp_10 nx_11))) ∧
  (¬ x_4 = x1 →
  (∃ c_15 s_16 : Nat, 0 + c_15 ≤ mc ∧ 0 + s_16 ≤ ms ∧ zo hp (some h0) [11] fun a_23 ci_24 fs_25 => zMt l g yX11_fault cX11_fault 1 (some (.object "WhatIfSheet$Fault")) d c_15 s_16 (.ref a_23 :: []) hp nx (zQq g fun r_19 hp_17 nx_18 =>
  (zo hp_17 r_19 [12] fun a_20 ci_21 fs_22 => (0 + c_15) ≤ mc ∧ (0 + s_16) ≤ ms ∧ PostX a_20 hp_17 nx_18))))))
set_option maxHeartbeats 40000000 in
theorem met_X11_takes {l : Launch} {g : zG} {d : Nat} {mc ms : Nat} {h0 : Nat} {x1 : Int32} {hp : zHp} {nx : Nat} {Post : zHp → Nat → Prop} {PostX : Nat → zHp → Nat → Prop} (hw : wp_X11_takes l g d mc ms h0 x1 hp nx Post PostX) : zMx l g yX11_takes cX11_takes 2 none (d + 1) mc ms [.ref h0, .int x1] hp nx (zQv g Post) "WhatIfSheet$Fault" PostX := by
  refine zy_start (by decide) (Nat.le_of_ble_eq_true rfl) ?_
  intro p e s m below meth c hk hr hin htb hH hz ls hl
  have hx := hk.1.1
  have hb := hk.1.2.1
  have hown := hk.1.2.2.2.1
  have hts := hk.1.2.2.2.2
  have hS : va_S (zAd g) s.heap s.heap [] := va_S.rf
  have hl : lv_has ls 2 [(0, va_rf (some h0)), (1, .int x1)] := hl
  unfold wp_X11_takes at hw
  refine zr_aload_n (r := some h0) hx hb dX11_takes_0 rfl (lv_at hl 0 rfl) ?_
  obtain ⟨a_1, ci_2, fs_3, x_4, er, he, hc, hv, hw⟩ := zgI_e hw
  refine zw_get hk hH er he hv (fk_X11_59 hc) dX11_takes_1 ?_
  refine lv_iload_n hx hb dX11_takes_4 rfl (lv_at hl 1 rfl) ?_
  refine lv_icmp_eq (tgt := 13) hx hb dX11_takes_5 (by decide) (fun hc => ?_) (fun hc => ?_)
  · have hw := hw.1 hc
    refine zr_aload_n (r := some h0) hx hb dX11_takes_13 rfl (lv_at hl 0 rfl) ?_
    obtain ⟨c_5, s_6, hcl, hsl, hw⟩ := hw
    obtain ⟨a_12, ci_13, fs_14, er, he, hc, hw⟩ := zo_e hw
    obtain rfl := List.mem_singleton.mp hc
    refine zy_callv (zy_runV (As := []) hk hH hz hS hl.1 er hw (cwV 0 hts (lw_V q1393 q1395 qs20 q170 q1396) rfl rfl rfl (by decide +kernel) (z_room (Nat.le_of_ble_eq_true rfl))) he rfl rfl rfl (Nat.le_of_ble_eq_true rfl) dX11_takes_14 ⟨hcl, hsl⟩) hS ?_ (fun hp_7 nx_8 hw H locs hH hz hS => ?_)
    · intro q_9 hp_10 nx_11 hw H locs hH hz hS hq
      obtain ⟨hkc, hks, hw⟩ := hw
      exact zy_out hk hH hz hS htb hq hw hkc hks
    · obtain ⟨hkc, hks, hw⟩ := hw
      exact vy_ret (zr_vret hk hr hH hz hS hw hkc hks dX11_takes_17)
  · have hw := hw.2 hc
    refine zr_aload_n (r := some h0) hx hb dX11_takes_8 rfl (lv_at hl 0 rfl) ?_
    obtain ⟨c_15, s_16, hcl, hsl, hw⟩ := hw
    obtain ⟨a_23, ci_24, fs_25, er, he, hc, hw⟩ := zo_e hw
    obtain rfl := List.mem_singleton.mp hc
    refine zr_callq (zw_runV (As := []) hk hH hz hS hl.1 er hw (cwV 0 hts (lw_V q1446 q1448 qs25 q170 q1449) rfl rfl rfl (by decide +kernel) (z_room (Nat.le_of_ble_eq_true rfl))) he rfl rfl rfl (Nat.le_of_ble_eq_true rfl) dX11_takes_9 ⟨hcl, hsl⟩) hS (fun r_19 hp_17 nx_18 hw H locs hH hz hS => ?_)
    obtain ⟨a_20, ci_21, fs_22, er, he, hc, hkc, hks, hw⟩ := zo_e hw
    obtain rfl := List.mem_singleton.mp hc
    exact zy_athrow hk hH hz hS htb er he rfl hw hkc hks dX11_takes_12
def wp_X11_closes (l : Launch) (g : zG) (d : Nat) (mc ms : Nat) (h0 : Nat) (hp : zHp) (nx : Nat) (Post : zHp → Nat → Prop) (PostX : Nat → zHp → Nat → Prop) : Prop :=
  (zgI hp (some h0) [11] 5 fun x_4 =>
  ((x_4 = (41 : Int32) →
  (zgI hp (some h0) [11] 2 fun x_8 =>
  (zpt g hp (some h0) [11] 2 (.int (x_8 - (1 : Int32))) fun hp_12 =>
  (∃ c_13 s_14 : Nat, 0 + c_13 ≤ mc ∧ 0 + s_14 ≤ ms ∧ zo hp_12 (some h0) [11] fun a_20 ci_21 fs_22 => zMx l g yX11_next cX11_next 1 none d c_13 s_14 (.ref a_20 :: []) hp_12 nx (zQv g fun hp_15 nx_16 =>
  ((0 + c_13) ≤ mc ∧ (0 + s_14) ≤ ms ∧ Post hp_15 nx_16)) "WhatIfSheet$Fault" (fun q_17 hp_18 nx_19 => (0 + c_13) ≤ mc ∧ (0 + s_14) ≤ ms ∧ PostX q_17 hp_18 nx_19))))) ∧
  (¬ x_4 = (41 : Int32) →
  (∃ c_23 s_24 : Nat, 0 + c_23 ≤ mc ∧ 0 + s_24 ≤ ms ∧ zo hp (some h0) [11] fun a_31 ci_32 fs_33 => zMt l g yX11_fault cX11_fault 1 (some (.object "WhatIfSheet$Fault")) d c_23 s_24 (.ref a_31 :: []) hp nx (zQq g fun r_27 hp_25 nx_26 =>
  (zo hp_25 r_27 [12] fun a_28 ci_29 fs_30 => (0 + c_23) ≤ mc ∧ (0 + s_24) ≤ ms ∧ PostX a_28 hp_25 nx_26))))))
set_option maxHeartbeats 40000000 in
theorem met_X11_closes {l : Launch} {g : zG} {d : Nat} {mc ms : Nat} {h0 : Nat} {hp : zHp} {nx : Nat} {Post : zHp → Nat → Prop} {PostX : Nat → zHp → Nat → Prop} (hw : wp_X11_closes l g d mc ms h0 hp nx Post PostX) : zMx l g yX11_closes cX11_closes 1 none (d + 1) mc ms [.ref h0] hp nx (zQv g Post) "WhatIfSheet$Fault" PostX := by
  refine zy_start (by decide) (Nat.le_of_ble_eq_true rfl) ?_
  intro p e s m below meth c hk hr hin htb hH hz ls hl
  have hx := hk.1.1
  have hb := hk.1.2.1
  have hown := hk.1.2.2.2.1
  have hts := hk.1.2.2.2.2
  have hS : va_S (zAd g) s.heap s.heap [] := va_S.rf
  have hl : lv_has ls 1 [(0, va_rf (some h0))] := hl
  unfold wp_X11_closes at hw
  refine zr_aload_n (r := some h0) hx hb dX11_closes_0 rfl (lv_at hl 0 rfl) ?_
  obtain ⟨a_1, ci_2, fs_3, x_4, er, he, hc, hv, hw⟩ := zgI_e hw
  refine zw_get hk hH er he hv (fk_X11_59 hc) dX11_closes_1 ?_
  refine lv_bipush (v := (41 : Int32)) hx hb dX11_closes_4 (by decide) ?_
  refine lv_icmp_eq (tgt := 14) hx hb dX11_closes_6 (by decide) (fun hc => ?_) (fun hc => ?_)
  · have hw := hw.1 hc
    refine zr_aload_n (r := some h0) hx hb dX11_closes_14 rfl (lv_at hl 0 rfl) ?_
    refine lv_dup hx hb dX11_closes_15 (z_cat _) ?_
    obtain ⟨a_5, ci_6, fs_7, x_8, er, he, hc, hv, hw⟩ := zgI_e hw
    refine zw_get hk hH er he hv (fk_X11_118 hc) dX11_closes_16 ?_
    refine lv_iconst (v := (1 : Int32)) hx hb dX11_closes_19 (by decide) ?_
    refine lv_isub hx hb dX11_closes_20 ?_
    obtain ⟨a_9, ci_10, fs_11, hp_12, er, he, hc, hA, hkl, eh, hw⟩ := zpt_e hw
    refine zw_put hk hH hz hS er he hA hkl eh (fp_X11_118 hc) rfl rfl dX11_closes_21 (fun H locs hH hz hS => ?_)
    refine zr_aload_n (r := some h0) hx hb dX11_closes_24 rfl (lv_at hl 0 rfl) ?_
    obtain ⟨c_13, s_14, hcl, hsl, hw⟩ := hw
    obtain ⟨a_20, ci_21, fs_22, er, he, hc, hw⟩ := zo_e hw
    obtain rfl := List.mem_singleton.mp hc
    refine zy_callv (zy_runV (As := []) hk hH hz hS hl.1 er hw (cwV 0 hts (lw_V q1393 q1395 qs20 q170 q1396) rfl rfl rfl (by decide +kernel) (z_room (Nat.le_of_ble_eq_true rfl))) he rfl rfl rfl (Nat.le_of_ble_eq_true rfl) dX11_closes_25 ⟨hcl, hsl⟩) hS ?_ (fun hp_15 nx_16 hw H locs hH hz hS => ?_)
    · intro q_17 hp_18 nx_19 hw H locs hH hz hS hq
      obtain ⟨hkc, hks, hw⟩ := hw
      exact zy_out hk hH hz hS htb hq hw hkc hks
    · obtain ⟨hkc, hks, hw⟩ := hw
      exact vy_ret (zr_vret hk hr hH hz hS hw hkc hks dX11_closes_28)
  · have hw := hw.2 hc
    refine zr_aload_n (r := some h0) hx hb dX11_closes_9 rfl (lv_at hl 0 rfl) ?_
    obtain ⟨c_23, s_24, hcl, hsl, hw⟩ := hw
    obtain ⟨a_31, ci_32, fs_33, er, he, hc, hw⟩ := zo_e hw
    obtain rfl := List.mem_singleton.mp hc
    refine zr_callq (zw_runV (As := []) hk hH hz hS hl.1 er hw (cwV 0 hts (lw_V q1446 q1448 qs25 q170 q1449) rfl rfl rfl (by decide +kernel) (z_room (Nat.le_of_ble_eq_true rfl))) he rfl rfl rfl (Nat.le_of_ble_eq_true rfl) dX11_closes_10 ⟨hcl, hsl⟩) hS (fun r_27 hp_25 nx_26 hw H locs hH hz hS => ?_)
    obtain ⟨a_28, ci_29, fs_30, er, he, hc, hkc, hks, hw⟩ := zo_e hw
    obtain rfl := List.mem_singleton.mp hc
    exact zy_athrow hk hH hz hS htb er he rfl hw hkc hks dX11_closes_13
theorem no_X11_184 : zNo "WhatIfSheet$Reader" 184 17 := ⟨RX17, TX17, 6, rfl, q1623, q1624, q180⟩
theorem no_X11_179 : zNo "WhatIfSheet$Reader" 179 16 := ⟨RX16, TX16, 5, rfl, q1600, q1601, q179⟩
def wp_X11_two (l : Launch) (g : zG) (d : Nat) (mc ms : Nat) (h0 : Nat) (x1 : Int32) (hp : zHp) (nx : Nat) (Post : Option Nat → zHp → Nat → Prop) (PostX : Nat → zHp → Nat → Prop) : Prop :=
  (∃ c_1 s_2 : Nat, 0 + c_1 ≤ mc ∧ 0 + s_2 ≤ ms ∧ zo hp (some h0) [11] fun a_93 ci_94 fs_95 => zMx l g yX11_next cX11_next 1 none d c_1 s_2 (.ref a_93 :: []) hp nx (zQv g fun hp_3 nx_4 =>
  (∃ c_5 s_6 : Nat, (0 + c_1) + c_5 ≤ mc ∧ (0 + s_2) + s_6 ≤ ms ∧ zo hp_3 (some h0) [11] fun a_87 ci_88 fs_89 => zMx l g yX11_opensRound cX11_opensRound 1 none d c_5 s_6 (.ref a_87 :: []) hp_3 nx_4 (zQv g fun hp_7 nx_8 =>
  (∃ c_9 s_10 : Nat, ((0 + c_1) + c_5) + c_9 ≤ mc ∧ ((0 + s_2) + s_6) + s_10 ≤ ms ∧ zo hp_7 (some h0) [11] fun a_81 ci_82 fs_83 => zMx l g yX11_even cX11_even 3 (some (.object "WhatIfSheet$Node")) d c_9 s_10 (.ref a_81 :: []) hp_7 nx_8 (zQq g fun r_13 hp_11 nx_12 =>
  (∃ c_14 s_15 : Nat, (((0 + c_1) + c_5) + c_9) + c_14 ≤ mc ∧ (((0 + s_2) + s_6) + s_10) + s_15 ≤ ms ∧ zo hp_11 (some h0) [11] fun a_75 ci_76 fs_77 => zMx l g yX11_takes cX11_takes 2 none d c_14 s_15 (.ref a_75 :: [.int (44 : Int32)]) hp_11 nx_12 (zQv g fun hp_16 nx_17 =>
  (∃ c_18 s_19 : Nat, ((((0 + c_1) + c_5) + c_9) + c_14) + c_18 ≤ mc ∧ ((((0 + s_2) + s_6) + s_10) + s_15) + s_19 ≤ ms ∧ zo hp_16 (some h0) [11] fun a_69 ci_70 fs_71 => zMx l g yX11_even cX11_even 3 (some (.object "WhatIfSheet$Node")) d c_18 s_19 (.ref a_69 :: []) hp_16 nx_17 (zQq g fun r_22 hp_20 nx_21 =>
  (∃ c_23 s_24 : Nat, (((((0 + c_1) + c_5) + c_9) + c_14) + c_18) + c_23 ≤ mc ∧ (((((0 + s_2) + s_6) + s_10) + s_15) + s_19) + s_24 ≤ ms ∧ zo hp_20 (some h0) [11] fun a_63 ci_64 fs_65 => zMx l g yX11_closes cX11_closes 1 none d c_23 s_24 (.ref a_63 :: []) hp_20 nx_21 (zQv g fun hp_25 nx_26 =>
  (∃ P_61 : (Option Nat) → (Option Nat) → (Option Nat) → zHp → Nat → Nat → Nat → Prop, (∀ (r_27 : Option Nat) (r_28 : Option Nat) (r_29 : Option Nat) (hp_30 : zHp) (nx_31 : Nat) (kc_32 : Nat) (ks_33 : Nat), P_61 r_27 r_28 r_29 hp_30 nx_31 kc_32 ks_33 →
  (kc_32 ≤ mc ∧ ks_33 ≤ ms ∧ Post r_29 hp_30 nx_31)) ∧
  ((x1 = 0 →
  (znw g mc ms hp_25 nx_26 ((((((0 + c_1) + c_5) + c_9) + c_14) + c_18) + c_23) ((((((0 + s_2) + s_6) + s_10) + s_15) + s_19) + s_24) 17 fun hp_34 =>
  ∀ nx_35 kc_36 ks_37 : Nat, nx_35 = (nx_26 + 1) → kc_36 = (((((((0 + c_1) + c_5) + c_9) + c_14) + c_18) + c_23) + 1) → ks_37 = (((((((0 + s_2) + s_6) + s_10) + s_15) + s_19) + s_24) + zNn 17) →
  (zgR hp_34 (some h0) [11] 9 fun r_41 =>
  (kc_36 ≤ mc ∧ ks_37 ≤ ms ∧ zMt l g yX17_init cX17_init 4 none d 0 0 (.ref nx_26 :: [va_rf r_41, va_rf r_13, va_rf r_22]) hp_34 nx_35 (zQv g fun hp_42 nx_43 =>
  P_61 r_13 r_22 (some nx_26) hp_42 nx_43 kc_36 ks_37))))) ∧
  (¬ x1 = 0 →
  (znw g mc ms hp_25 nx_26 ((((((0 + c_1) + c_5) + c_9) + c_14) + c_18) + c_23) ((((((0 + s_2) + s_6) + s_10) + s_15) + s_19) + s_24) 16 fun hp_47 =>
  ∀ nx_48 kc_49 ks_50 : Nat, nx_48 = (nx_26 + 1) → kc_49 = (((((((0 + c_1) + c_5) + c_9) + c_14) + c_18) + c_23) + 1) → ks_50 = (((((((0 + s_2) + s_6) + s_10) + s_15) + s_19) + s_24) + zNn 16) →
  (zgR hp_47 (some h0) [11] 9 fun r_54 =>
  (kc_49 ≤ mc ∧ ks_50 ≤ ms ∧ zMt l g yX16_init cX16_init 4 none d 0 0 (.ref nx_26 :: [va_rf r_54, va_rf r_13, va_rf r_22]) hp_47 nx_48 (zQv g fun hp_55 nx_56 =>
  P_61 r_13 r_22 (some nx_26) hp_55 nx_56 kc_49 ks_50)))))))) "WhatIfSheet$Fault" (fun q_60 hp_61 nx_62 => ((((((0 + c_1) + c_5) + c_9) + c_14) + c_18) + c_23) ≤ mc ∧ ((((((0 + s_2) + s_6) + s_10) + s_15) + s_19) + s_24) ≤ ms ∧ PostX q_60 hp_61 nx_62))) "WhatIfSheet$Fault" (fun q_66 hp_67 nx_68 => (((((0 + c_1) + c_5) + c_9) + c_14) + c_18) ≤ mc ∧ (((((0 + s_2) + s_6) + s_10) + s_15) + s_19) ≤ ms ∧ PostX q_66 hp_67 nx_68))) "WhatIfSheet$Fault" (fun q_72 hp_73 nx_74 => ((((0 + c_1) + c_5) + c_9) + c_14) ≤ mc ∧ ((((0 + s_2) + s_6) + s_10) + s_15) ≤ ms ∧ PostX q_72 hp_73 nx_74))) "WhatIfSheet$Fault" (fun q_78 hp_79 nx_80 => (((0 + c_1) + c_5) + c_9) ≤ mc ∧ (((0 + s_2) + s_6) + s_10) ≤ ms ∧ PostX q_78 hp_79 nx_80))) "WhatIfSheet$Fault" (fun q_84 hp_85 nx_86 => ((0 + c_1) + c_5) ≤ mc ∧ ((0 + s_2) + s_6) ≤ ms ∧ PostX q_84 hp_85 nx_86))) "WhatIfSheet$Fault" (fun q_90 hp_91 nx_92 => (0 + c_1) ≤ mc ∧ (0 + s_2) ≤ ms ∧ PostX q_90 hp_91 nx_92))
set_option maxHeartbeats 40000000 in
theorem met_X11_two {l : Launch} {g : zG} {d : Nat} {mc ms : Nat} {h0 : Nat} {x1 : Int32} {hp : zHp} {nx : Nat} {Post : Option Nat → zHp → Nat → Prop} {PostX : Nat → zHp → Nat → Prop} (hw : wp_X11_two l g d mc ms h0 x1 hp nx Post PostX) : zMx l g yX11_two cX11_two 4 (some (.object "WhatIfSheet$Node")) (d + 1) mc ms [.ref h0, .int x1] hp nx (zQq g Post) "WhatIfSheet$Fault" PostX := by
  refine zy_start (by decide) (Nat.le_of_ble_eq_true rfl) ?_
  intro p e s m below meth c hk hr hin htb hH hz ls hl
  have hx := hk.1.1
  have hb := hk.1.2.1
  have hown := hk.1.2.2.2.1
  have hts := hk.1.2.2.2.2
  have hS : va_S (zAd g) s.heap s.heap [] := va_S.rf
  have hl : lv_has ls 4 [(0, va_rf (some h0)), (1, .int x1)] := hl
  unfold wp_X11_two at hw
  refine zr_aload_n (r := some h0) hx hb dX11_two_0 rfl (lv_at hl 0 rfl) ?_
  obtain ⟨c_1, s_2, hcl, hsl, hw⟩ := hw
  obtain ⟨a_93, ci_94, fs_95, er, he, hc, hw⟩ := zo_e hw
  obtain rfl := List.mem_singleton.mp hc
  refine zy_callv (zy_runV (As := []) hk hH hz hS hl.1 er hw (cwV 0 hts (lw_V q1393 q1395 qs20 q170 q1396) rfl rfl rfl (by decide +kernel) (z_room (Nat.le_of_ble_eq_true rfl))) he rfl rfl rfl (Nat.le_of_ble_eq_true rfl) dX11_two_1 ⟨hcl, hsl⟩) hS ?_ (fun hp_3 nx_4 hw H locs hH hz hS => ?_)
  · intro q_90 hp_91 nx_92 hw H locs hH hz hS hq
    obtain ⟨hkc, hks, hw⟩ := hw
    exact zy_out hk hH hz hS htb hq hw hkc hks
  · refine zr_aload_n (r := some h0) hx hb dX11_two_4 rfl (lv_at hl 0 rfl) ?_
    obtain ⟨c_5, s_6, hcl, hsl, hw⟩ := hw
    obtain ⟨a_87, ci_88, fs_89, er, he, hc, hw⟩ := zo_e hw
    obtain rfl := List.mem_singleton.mp hc
    refine zy_callv (zy_runV (As := []) hk hH hz hS hl.1 er hw (cwV 0 hts (lw_V q1553 q1555 qs33 q170 q1556) rfl rfl rfl (by decide +kernel) (z_room (Nat.le_of_ble_eq_true rfl))) he rfl rfl rfl (Nat.le_of_ble_eq_true rfl) dX11_two_5 ⟨hcl, hsl⟩) hS ?_ (fun hp_7 nx_8 hw H locs hH hz hS => ?_)
    · intro q_84 hp_85 nx_86 hw H locs hH hz hS hq
      obtain ⟨hkc, hks, hw⟩ := hw
      exact zy_out hk hH hz hS htb hq hw hkc hks
    · refine zr_aload_n (r := some h0) hx hb dX11_two_8 rfl (lv_at hl 0 rfl) ?_
      obtain ⟨c_9, s_10, hcl, hsl, hw⟩ := hw
      obtain ⟨a_81, ci_82, fs_83, er, he, hc, hw⟩ := zo_e hw
      obtain rfl := List.mem_singleton.mp hc
      refine zy_callq (zy_runV (As := []) hk hH hz hS hl.1 er hw (cwV 0 hts (lw_V q1523 q1525 qs26 q170 q1526) rfl rfl rfl (by decide +kernel) (z_room (Nat.le_of_ble_eq_true rfl))) he rfl rfl rfl (Nat.le_of_ble_eq_true rfl) dX11_two_9 ⟨hcl, hsl⟩) hS ?_ (fun r_13 hp_11 nx_12 hw H locs hH hz hS => ?_)
      · intro q_78 hp_79 nx_80 hw H locs hH hz hS hq
        obtain ⟨hkc, hks, hw⟩ := hw
        exact zy_out hk hH hz hS htb hq hw hkc hks
      · refine zr_astore_n (r := r_13) (i := 2) (lv' := [(2, va_rf r_13), (0, va_rf (some h0)), (1, .int x1)]) hx hb dX11_two_12 rfl hl (by decide) (by first | rfl | simp [List.filter_cons, z_cat, z_catI, z_catJ, z_catF, z_catD]) (fun ls hl => ?_)
        refine zr_aload_n (r := some h0) hx hb dX11_two_13 rfl (lv_at hl 1 rfl) ?_
        refine lv_bipush (v := (44 : Int32)) hx hb dX11_two_14 (by decide) ?_
        obtain ⟨c_14, s_15, hcl, hsl, hw⟩ := hw
        obtain ⟨a_75, ci_76, fs_77, er, he, hc, hw⟩ := zo_e hw
        obtain rfl := List.mem_singleton.mp hc
        refine zy_callv (zy_runV (As := [.int (44 : Int32)]) hk hH hz hS hl.1 er hw (cwV 1 hts (lw_V q1561 q1563 qs35 q170 q1564) rfl rfl rfl (by decide +kernel) (z_room (Nat.le_of_ble_eq_true rfl))) he rfl rfl rfl (Nat.le_of_ble_eq_true rfl) dX11_two_16 ⟨hcl, hsl⟩) hS ?_ (fun hp_16 nx_17 hw H locs hH hz hS => ?_)
        · intro q_72 hp_73 nx_74 hw H locs hH hz hS hq
          obtain ⟨hkc, hks, hw⟩ := hw
          exact zy_out hk hH hz hS htb hq hw hkc hks
        · refine zr_aload_n (r := some h0) hx hb dX11_two_19 rfl (lv_at hl 1 rfl) ?_
          obtain ⟨c_18, s_19, hcl, hsl, hw⟩ := hw
          obtain ⟨a_69, ci_70, fs_71, er, he, hc, hw⟩ := zo_e hw
          obtain rfl := List.mem_singleton.mp hc
          refine zy_callq (zy_runV (As := []) hk hH hz hS hl.1 er hw (cwV 0 hts (lw_V q1523 q1525 qs26 q170 q1526) rfl rfl rfl (by decide +kernel) (z_room (Nat.le_of_ble_eq_true rfl))) he rfl rfl rfl (Nat.le_of_ble_eq_true rfl) dX11_two_20 ⟨hcl, hsl⟩) hS ?_ (fun r_22 hp_20 nx_21 hw H locs hH hz hS => ?_)
          · intro q_66 hp_67 nx_68 hw H locs hH hz hS hq
            obtain ⟨hkc, hks, hw⟩ := hw
            exact zy_out hk hH hz hS htb hq hw hkc hks
          · refine zr_astore_n (r := r_22) (i := 3) (lv' := [(3, va_rf r_22), (2, va_rf r_13), (0, va_rf (some h0)), (1, .int x1)]) hx hb dX11_two_23 rfl hl (by decide) (by first | rfl | simp [List.filter_cons, z_cat, z_catI, z_catJ, z_catF, z_catD]) (fun ls hl => ?_)
            refine zr_aload_n (r := some h0) hx hb dX11_two_24 rfl (lv_at hl 2 rfl) ?_
            obtain ⟨c_23, s_24, hcl, hsl, hw⟩ := hw
            obtain ⟨a_63, ci_64, fs_65, er, he, hc, hw⟩ := zo_e hw
            obtain rfl := List.mem_singleton.mp hc
            refine zy_callv (zy_runV (As := []) hk hH hz hS hl.1 er hw (cwV 0 hts (lw_V q1565 q1567 qs36 q170 q1568) rfl rfl rfl (by decide +kernel) (z_room (Nat.le_of_ble_eq_true rfl))) he rfl rfl rfl (Nat.le_of_ble_eq_true rfl) dX11_two_25 ⟨hcl, hsl⟩) hS ?_ (fun hp_25 nx_26 hw H locs hH hz hS => ?_)
            · intro q_60 hp_61 nx_62 hw H locs hH hz hS hq
              obtain ⟨hkc, hks, hw⟩ := hw
              exact zy_out hk hH hz hS htb hq hw hkc hks
            · refine lv_iload_n hx hb dX11_two_28 rfl (lv_at hl 3 rfl) ?_
              obtain ⟨P_61, hP_61, hw⟩ := hw
              have hJ_61 : ∀ (r_27 : Option Nat) (r_28 : Option Nat) (r_29 : Option Nat) (hp_30 : zHp) (nx_31 : Nat) (kc_32 : Nat) (ks_33 : Nat) (H : Heap) (locs : List Loc) (ls : Array Slot), P_61 r_27 r_28 r_29 hp_30 nx_31 kc_32 ks_33 → lv_has ls 4 [(0, va_rf (some h0)), (1, .int x1), (2, va_rf r_27), (3, va_rf r_28)] → zHd g hp_30 H → H.size = nx_31 → va_S (zAd g) s.heap H locs → W p l e (zrm (d + 1) mc ms) s m ([.ref h0, .int x1] : List Value).toArray below meth c H locs kc_32 ks_33 (vy_MQ below (zQq g Post) (zXC g "WhatIfSheet$Fault" PostX) ([.ref h0, .int x1] : List Value).toArray s mc ms (zAd g)) (F0 m 61 ls [va_rf r_29]) := by
                intro r_27 r_28 r_29 hp_30 nx_31 kc_32 ks_33 H locs ls hw hl hH hz hS
                have hw := hP_61 r_27 r_28 r_29 hp_30 nx_31 kc_32 ks_33 hw
                obtain ⟨hkc, hks, hw⟩ := hw
                exact vy_ret (zr_aret (r := r_29) hk hr (Or.inl ⟨_, rfl⟩) hH hz hS hw hkc hks dX11_two_61)
              refine lv_if_eq (tgt := 48) hx hb dX11_two_29 (by decide) (fun hc => ?_) (fun hc => ?_)
              · have hw := hw.1 hc
                obtain ⟨hcl, hsl, hw⟩ := hw
                refine zx_new hk hH hz hS (ci := 17) no_X11_184 hcl hsl dX11_two_48 (fun H hH hz hS hlt hnb => ?_)
                have hw := hw hlt hnb
                generalize va_up hp_25 nx_26 _ = hp_34 at hH hw
                obtain ⟨kc_36, ekc⟩ : ∃ k, k = (((((((0 + c_1) + c_5) + c_9) + c_14) + c_18) + c_23) + 1) := ⟨_, rfl⟩
                obtain ⟨ks_37, eks⟩ : ∃ k, k = (((((((0 + s_2) + s_6) + s_10) + s_15) + s_19) + s_24) + zNn 17) := ⟨_, rfl⟩
                have hw := hw _ _ _ rfl ekc eks
                refine W.widen (Nat.le_of_eq ekc.symm) (Nat.le_of_eq eks.symm) ?_
                clear ekc eks
                generalize (nx_26 + 1) = nx_35 at hz hw
                refine lv_dup hx hb dX11_two_51 (z_cat _) ?_
                refine zr_aload_n (r := some h0) hx hb dX11_two_52 rfl (lv_at hl 2 rfl) ?_
                obtain ⟨a_38, ci_39, fs_40, r_41, er, he, hc, hv, hw⟩ := zgR_e hw
                refine zw_get hk hH er he hv (fk_X11_3 hc) dX11_two_53 ?_
                refine zr_aload_n (r := r_13) hx hb dX11_two_56 rfl (lv_at hl 1 rfl) ?_
                refine zr_aload_n (r := r_22) hx hb dX11_two_57 rfl (lv_at hl 0 rfl) ?_
                obtain ⟨hcl, hsl, hw⟩ := hw
                refine zr_callv (zw_runI (As := [va_rf r_41, va_rf r_13, va_rf r_22]) (r := some nx_26) hk hH hz hS hl.1 rfl hw (cwI 3 hts (lw_meth q1627) rfl rfl rfl (hts _ q180) (hts _ q1625) (hts _ q1626) rfl (by decide +kernel) (z_room (Nat.le_of_ble_eq_true rfl))) rfl rfl (by simp only [List.map_cons, List.map_nil, z_cat]; exact Nat.le_of_ble_eq_true rfl) dX11_two_58 ⟨hcl, hsl⟩) hS (fun hp_42 nx_43 hw H locs hH hz hS => ?_)
                exact hJ_61 r_13 r_22 (some nx_26) hp_42 nx_43 kc_36 ks_37 _ _ _ hw (lv_sub hl [2, 3, 1, 0] rfl) hH hz hS
              · have hw := hw.2 hc
                obtain ⟨hcl, hsl, hw⟩ := hw
                refine zx_new hk hH hz hS (ci := 16) no_X11_179 hcl hsl dX11_two_32 (fun H hH hz hS hlt hnb => ?_)
                have hw := hw hlt hnb
                generalize va_up hp_25 nx_26 _ = hp_47 at hH hw
                obtain ⟨kc_49, ekc⟩ : ∃ k, k = (((((((0 + c_1) + c_5) + c_9) + c_14) + c_18) + c_23) + 1) := ⟨_, rfl⟩
                obtain ⟨ks_50, eks⟩ : ∃ k, k = (((((((0 + s_2) + s_6) + s_10) + s_15) + s_19) + s_24) + zNn 16) := ⟨_, rfl⟩
                have hw := hw _ _ _ rfl ekc eks
                refine W.widen (Nat.le_of_eq ekc.symm) (Nat.le_of_eq eks.symm) ?_
                clear ekc eks
                generalize (nx_26 + 1) = nx_48 at hz hw
                refine lv_dup hx hb dX11_two_35 (z_cat _) ?_
                refine zr_aload_n (r := some h0) hx hb dX11_two_36 rfl (lv_at hl 2 rfl) ?_
                obtain ⟨a_51, ci_52, fs_53, r_54, er, he, hc, hv, hw⟩ := zgR_e hw
                refine zw_get hk hH er he hv (fk_X11_3 hc) dX11_two_37 ?_
                refine zr_aload_n (r := r_13) hx hb dX11_two_40 rfl (lv_at hl 1 rfl) ?_
                refine zr_aload_n (r := r_22) hx hb dX11_two_41 rfl (lv_at hl 0 rfl) ?_
                obtain ⟨hcl, hsl, hw⟩ := hw
                refine zr_callv (zw_runI (As := [va_rf r_54, va_rf r_13, va_rf r_22]) (r := some nx_26) hk hH hz hS hl.1 rfl hw (cwI 3 hts (lw_meth q1604) rfl rfl rfl (hts _ q179) (hts _ q1602) (hts _ q1603) rfl (by decide +kernel) (z_room (Nat.le_of_ble_eq_true rfl))) rfl rfl (by simp only [List.map_cons, List.map_nil, z_cat]; exact Nat.le_of_ble_eq_true rfl) dX11_two_42 ⟨hcl, hsl⟩) hS (fun hp_55 nx_56 hw H locs hH hz hS => ?_)
                refine lv_goto (tgt := 61) hx hb dX11_two_45 (by decide) ?_
                exact hJ_61 r_13 r_22 (some nx_26) hp_55 nx_56 kc_49 ks_50 _ _ _ hw (lv_sub hl [2, 3, 1, 0] rfl) hH hz hS
theorem no_X11_144 : zNo "WhatIfSheet$Reader" 144 18 := ⟨RX18, TX18, 3, rfl, q1726, q1727, q182⟩
theorem no_X11_149 : zNo "WhatIfSheet$Reader" 149 19 := ⟨RX19, TX19, 4, rfl, q1746, q1747, q183⟩
theorem no_X11_152 : zNo "WhatIfSheet$Reader" 152 20 := ⟨RX20, TX20, 5, rfl, q1759, q1760, q184⟩
theorem no_X11_155 : zNo "WhatIfSheet$Reader" 155 21 := ⟨RX21, TX21, 6, rfl, q1773, q1774, q185⟩
theorem no_X11_158 : zNo "WhatIfSheet$Reader" 158 22 := ⟨RX22, TX22, 4, rfl, q1788, q1789, q186⟩
def wp_X11_asked (l : Launch) (g : zG) (d : Nat) (mc ms : Nat) (h0 : Nat) (r1 : Option Nat) (hp : zHp) (nx : Nat) (Post : Option Nat → zHp → Nat → Prop) (PostX : Nat → zHp → Nat → Prop) : Prop :=
  (∃ c_1 s_2 : Nat, 0 + c_1 ≤ mc ∧ 0 + s_2 ≤ ms ∧ zo hp (some h0) [11] fun a_171 ci_172 fs_173 => zMx l g yX11_next cX11_next 1 none d c_1 s_2 (.ref a_171 :: []) hp nx (zQv g fun hp_3 nx_4 =>
  (zgI hp_3 (some h0) [11] 4 fun x_8 =>
  (∃ P_29 : zHp → Nat → Nat → Nat → Prop, (∀ (hp_9 : zHp) (nx_10 : Nat) (kc_11 : Nat) (ks_12 : Nat), P_29 hp_9 nx_10 kc_11 ks_12 →
  (∃ c_13 s_14 : Nat, kc_11 + c_13 ≤ mc ∧ ks_12 + s_14 ≤ ms ∧ zo hp_9 (some h0) [11] fun a_21 ci_22 fs_23 => zMt l g yX11_fault cX11_fault 1 (some (.object "WhatIfSheet$Fault")) d c_13 s_14 (.ref a_21 :: []) hp_9 nx_10 (zQq g fun r_17 hp_15 nx_16 =>
  (zo hp_15 r_17 [12] fun a_18 ci_19 fs_20 => (kc_11 + c_13) ≤ mc ∧ (ks_12 + s_14) ≤ ms ∧ PostX a_18 hp_15 nx_16)))) ∧
  ((x_8 = (-1 : Int32) →
  P_29 hp_3 nx_4 (0 + c_1) (0 + s_2)) ∧
  (¬ x_8 = (-1 : Int32) →
  (zgI hp_3 (some h0) [11] 6 fun x_27 =>
  ((x_27 = 0 →
  P_29 hp_3 nx_4 (0 + c_1) (0 + s_2)) ∧
  (¬ x_27 = 0 →
  (zgI hp_3 (some h0) [11] 4 fun x_31 =>
  ((x_31 ≤ (5000 : Int32) →
  (zgI hp_3 (some h0) [11] 4 fun x_35 =>
  (¬ (1000 : Int32) = 0 ∧ (∀ x_36 : Int32, x_36 = x_35 / (1000 : Int32) →
  (zgR hp_3 (some h0) [11] 8 fun r_40 =>
  (∃ c_41 s_42 : Nat, (0 + c_1) + c_41 ≤ mc ∧ (0 + s_2) + s_42 ≤ ms ∧ zMt l g yJ15_valueOf cJ15_valueOf 1 (some (.object "java/lang/Integer")) d c_41 s_42 [.int x_36] hp_3 nx_4 (zQq g fun r_45 hp_43 nx_44 =>
  (∃ c_46 s_47 : Nat, ((0 + c_1) + c_41) + c_46 ≤ mc ∧ ((0 + s_2) + s_42) + s_47 ≤ ms ∧ zo hp_43 r_40 [36] fun a_165 ci_166 fs_167 => zMt l g yJ27_add cJ27_add 2 (some .boolean) d c_46 s_47 (.ref a_165 :: [va_rf r_45]) hp_43 nx_44 (zQi g fun x_50 hp_48 nx_49 =>
  (∃ c_51 s_52 : Nat, (((0 + c_1) + c_41) + c_46) + c_51 ≤ mc ∧ (((0 + s_2) + s_42) + s_47) + s_52 ≤ ms ∧ zo hp_48 (some h0) [11] fun a_162 ci_163 fs_164 => zMx l g yX11_next cX11_next 1 none d c_51 s_52 (.ref a_162 :: []) hp_48 nx_49 (zQv g fun hp_53 nx_54 =>
  (∃ c_55 s_56 : Nat, ((((0 + c_1) + c_41) + c_46) + c_51) + c_55 ≤ mc ∧ ((((0 + s_2) + s_42) + s_47) + s_52) + s_56 ≤ ms ∧ zo hp_53 r1 [40] fun a_156 ci_157 fs_158 => zMt l g yJ7_hashCode cJ7_hashCode 2 (some .int) d c_55 s_56 (.ref a_156 :: []) hp_53 nx_54 (zQi g fun x_59 hp_57 nx_58 =>
  (∃ P_169 : Int32 → (Option Nat) → Int32 → zHp → Nat → Nat → Nat → Prop, (∀ (x_60 : Int32) (r_61 : Option Nat) (x_62 : Int32) (hp_63 : zHp) (nx_64 : Nat) (kc_65 : Nat) (ks_66 : Nat), P_169 x_60 r_61 x_62 hp_63 nx_64 kc_65 ks_66 →
  ((x_62 = (0 : Int32) →
  (znw g mc ms hp_63 nx_64 kc_65 ks_66 18 fun hp_67 =>
  ∀ nx_68 kc_69 ks_70 : Nat, nx_68 = (nx_64 + 1) → kc_69 = (kc_65 + 1) → ks_70 = (ks_66 + zNn 18) →
  (zgR hp_67 (some h0) [11] 9 fun r_74 =>
  (kc_69 ≤ mc ∧ ks_70 ≤ ms ∧ zMt l g yX18_init cX18_init 3 none d 0 0 (.ref nx_64 :: [va_rf r_74, .int x_60]) hp_67 nx_68 (zQv g fun hp_75 nx_76 =>
  (kc_69 ≤ mc ∧ ks_70 ≤ ms ∧ Post (some nx_64) hp_75 nx_76)))))) ∧
  (x_62 = (1 : Int32) →
  (znw g mc ms hp_63 nx_64 kc_65 ks_66 19 fun hp_80 =>
  ∀ nx_81 kc_82 ks_83 : Nat, nx_81 = (nx_64 + 1) → kc_82 = (kc_65 + 1) → ks_83 = (ks_66 + zNn 19) →
  (zgR hp_80 (some h0) [11] 9 fun r_87 =>
  (kc_82 ≤ mc ∧ ks_83 ≤ ms ∧ zMt l g yX19_init cX19_init 3 none d 0 0 (.ref nx_64 :: [va_rf r_87, .int x_60]) hp_80 nx_81 (zQv g fun hp_88 nx_89 =>
  (kc_82 ≤ mc ∧ ks_83 ≤ ms ∧ Post (some nx_64) hp_88 nx_89)))))) ∧
  (x_62 = (2 : Int32) →
  (znw g mc ms hp_63 nx_64 kc_65 ks_66 20 fun hp_93 =>
  ∀ nx_94 kc_95 ks_96 : Nat, nx_94 = (nx_64 + 1) → kc_95 = (kc_65 + 1) → ks_96 = (ks_66 + zNn 20) →
  (zgR hp_93 (some h0) [11] 9 fun r_100 =>
  (kc_95 ≤ mc ∧ ks_96 ≤ ms ∧ zMt l g yX20_init cX20_init 3 none d 0 0 (.ref nx_64 :: [va_rf r_100, .int x_60]) hp_93 nx_94 (zQv g fun hp_101 nx_102 =>
  (kc_95 ≤ mc ∧ ks_96 ≤ ms ∧ Post (some nx_64) hp_101 nx_102)))))) ∧
  (x_62 = (3 : Int32) →
  (znw g mc ms hp_63 nx_64 kc_65 ks_66 21 fun hp_106 =>
  ∀ nx_107 kc_108 ks_109 : Nat, nx_107 = (nx_64 + 1) → kc_108 = (kc_65 + 1) → ks_109 = (ks_66 + zNn 21) →
  (zgR hp_106 (some h0) [11] 9 fun r_113 =>
  (kc_108 ≤ mc ∧ ks_109 ≤ ms ∧ zMt l g yX21_init cX21_init 3 none d 0 0 (.ref nx_64 :: [va_rf r_113, .int x_60]) hp_106 nx_107 (zQv g fun hp_114 nx_115 =>
  (kc_108 ≤ mc ∧ ks_109 ≤ ms ∧ Post (some nx_64) hp_114 nx_115)))))) ∧
  (¬ x_62 = (0 : Int32) ∧ ¬ x_62 = (1 : Int32) ∧ ¬ x_62 = (2 : Int32) ∧ ¬ x_62 = (3 : Int32) →
  (znw g mc ms hp_63 nx_64 kc_65 ks_66 22 fun hp_119 =>
  ∀ nx_120 kc_121 ks_122 : Nat, nx_120 = (nx_64 + 1) → kc_121 = (kc_65 + 1) → ks_122 = (ks_66 + zNn 22) →
  (zgR hp_119 (some h0) [11] 9 fun r_126 =>
  (kc_121 ≤ mc ∧ ks_122 ≤ ms ∧ zMt l g yX22_init cX22_init 3 none d 0 0 (.ref nx_64 :: [va_rf r_126, .int x_60]) hp_119 nx_120 (zQv g fun hp_127 nx_128 =>
  (kc_121 ≤ mc ∧ ks_122 ≤ ms ∧ Post (some nx_64) hp_127 nx_128)))))))) ∧
  ((x_59 = (114251 : Int32) →
  ((((((0 + c_1) + c_41) + c_46) + c_51) + c_55) ≤ mc ∧ (((((0 + s_2) + s_42) + s_47) + s_52) + s_56) ≤ ms ∧ zo hp_57 r1 [40] fun a_135 ci_136 fs_137 => zMt l g yJ7_equals cJ7_equals 3 (some .boolean) d 0 0 (.ref a_135 :: [va_rf (some (g.2.2.2.2 4))]) hp_57 nx_58 (zQi g fun x_134 hp_132 nx_133 =>
  ((x_134 = 0 →
  P_169 x_36 r1 (-1 : Int32) hp_132 nx_133 (((((0 + c_1) + c_41) + c_46) + c_51) + c_55) (((((0 + s_2) + s_42) + s_47) + s_52) + s_56)) ∧
  (¬ x_134 = 0 →
  P_169 x_36 r1 (0 : Int32) hp_132 nx_133 (((((0 + c_1) + c_41) + c_46) + c_51) + c_55) (((((0 + s_2) + s_42) + s_47) + s_52) + s_56)))))) ∧
  (x_59 = (3347397 : Int32) →
  ((((((0 + c_1) + c_41) + c_46) + c_51) + c_55) ≤ mc ∧ (((((0 + s_2) + s_42) + s_47) + s_52) + s_56) ≤ ms ∧ zo hp_57 r1 [40] fun a_141 ci_142 fs_143 => zMt l g yJ7_equals cJ7_equals 3 (some .boolean) d 0 0 (.ref a_141 :: [va_rf (some (g.2.2.2.2 5))]) hp_57 nx_58 (zQi g fun x_140 hp_138 nx_139 =>
  ((x_140 = 0 →
  P_169 x_36 r1 (-1 : Int32) hp_138 nx_139 (((((0 + c_1) + c_41) + c_46) + c_51) + c_55) (((((0 + s_2) + s_42) + s_47) + s_52) + s_56)) ∧
  (¬ x_140 = 0 →
  P_169 x_36 r1 (1 : Int32) hp_138 nx_139 (((((0 + c_1) + c_41) + c_46) + c_51) + c_55) (((((0 + s_2) + s_42) + s_47) + s_52) + s_56)))))) ∧
  (x_59 = (3357571 : Int32) →
  ((((((0 + c_1) + c_41) + c_46) + c_51) + c_55) ≤ mc ∧ (((((0 + s_2) + s_42) + s_47) + s_52) + s_56) ≤ ms ∧ zo hp_57 r1 [40] fun a_147 ci_148 fs_149 => zMt l g yJ7_equals cJ7_equals 3 (some .boolean) d 0 0 (.ref a_147 :: [va_rf (some (g.2.2.2.2 7))]) hp_57 nx_58 (zQi g fun x_146 hp_144 nx_145 =>
  ((x_146 = 0 →
  P_169 x_36 r1 (-1 : Int32) hp_144 nx_145 (((((0 + c_1) + c_41) + c_46) + c_51) + c_55) (((((0 + s_2) + s_42) + s_47) + s_52) + s_56)) ∧
  (¬ x_146 = 0 →
  P_169 x_36 r1 (3 : Int32) hp_144 nx_145 (((((0 + c_1) + c_41) + c_46) + c_51) + c_55) (((((0 + s_2) + s_42) + s_47) + s_52) + s_56)))))) ∧
  (x_59 = (102846057 : Int32) →
  ((((((0 + c_1) + c_41) + c_46) + c_51) + c_55) ≤ mc ∧ (((((0 + s_2) + s_42) + s_47) + s_52) + s_56) ≤ ms ∧ zo hp_57 r1 [40] fun a_153 ci_154 fs_155 => zMt l g yJ7_equals cJ7_equals 3 (some .boolean) d 0 0 (.ref a_153 :: [va_rf (some (g.2.2.2.2 6))]) hp_57 nx_58 (zQi g fun x_152 hp_150 nx_151 =>
  ((x_152 = 0 →
  P_169 x_36 r1 (-1 : Int32) hp_150 nx_151 (((((0 + c_1) + c_41) + c_46) + c_51) + c_55) (((((0 + s_2) + s_42) + s_47) + s_52) + s_56)) ∧
  (¬ x_152 = 0 →
  P_169 x_36 r1 (2 : Int32) hp_150 nx_151 (((((0 + c_1) + c_41) + c_46) + c_51) + c_55) (((((0 + s_2) + s_42) + s_47) + s_52) + s_56)))))) ∧
  (¬ x_59 = (114251 : Int32) ∧ ¬ x_59 = (3347397 : Int32) ∧ ¬ x_59 = (3357571 : Int32) ∧ ¬ x_59 = (102846057 : Int32) →
  P_169 x_36 r1 (-1 : Int32) hp_57 nx_58 (((((0 + c_1) + c_41) + c_46) + c_51) + c_55) (((((0 + s_2) + s_42) + s_47) + s_52) + s_56))))))) "WhatIfSheet$Fault" (fun q_159 hp_160 nx_161 => ((((0 + c_1) + c_41) + c_46) + c_51) ≤ mc ∧ ((((0 + s_2) + s_42) + s_47) + s_52) ≤ ms ∧ PostX q_159 hp_160 nx_161))))))))))) ∧
  (¬ x_31 ≤ (5000 : Int32) →
  P_29 hp_3 nx_4 (0 + c_1) (0 + s_2)))))))))))) "WhatIfSheet$Fault" (fun q_168 hp_169 nx_170 => (0 + c_1) ≤ mc ∧ (0 + s_2) ≤ ms ∧ PostX q_168 hp_169 nx_170))
set_option maxHeartbeats 40000000 in
theorem met_X11_asked {l : Launch} {g : zG} {d : Nat} {mc ms : Nat} {h0 : Nat} {r1 : Option Nat} {hp : zHp} {nx : Nat} {Post : Option Nat → zHp → Nat → Prop} {PostX : Nat → zHp → Nat → Prop} (hw : wp_X11_asked l g d mc ms h0 r1 hp nx Post PostX) : zMx l g yX11_asked cX11_asked 5 (some (.object "WhatIfSheet$Node")) (d + 1) mc ms [.ref h0, va_rf r1] hp nx (zQq g Post) "WhatIfSheet$Fault" PostX := by
  refine zy_start (by decide) (by cases r1 <;> exact Nat.le_of_ble_eq_true rfl) ?_
  intro p e s m below meth c hk hr hin htb hH hz ls hl
  have hx := hk.1.1
  have hb := hk.1.2.1
  have hown := hk.1.2.2.2.1
  have hts := hk.1.2.2.2.2
  have hS : va_S (zAd g) s.heap s.heap [] := va_S.rf
  have hl : lv_has ls 5 [(0, va_rf (some h0)), (1, va_rf r1)] := by cases r1 <;> exact hl
  unfold wp_X11_asked at hw
  refine zr_aload_n (r := some h0) hx hb dX11_asked_0 rfl (lv_at hl 0 rfl) ?_
  obtain ⟨c_1, s_2, hcl, hsl, hw⟩ := hw
  obtain ⟨a_171, ci_172, fs_173, er, he, hc, hw⟩ := zo_e hw
  obtain rfl := List.mem_singleton.mp hc
  refine zy_callv (zy_runV (As := []) hk hH hz hS hl.1 er hw (cwV 0 hts (lw_V q1393 q1395 qs20 q170 q1396) rfl rfl rfl (by decide +kernel) (z_room (Nat.le_of_ble_eq_true rfl))) he rfl rfl rfl (Nat.le_of_ble_eq_true rfl) dX11_asked_1 ⟨hcl, hsl⟩) hS ?_ (fun hp_3 nx_4 hw H locs hH hz hS => ?_)
  · intro q_168 hp_169 nx_170 hw H locs hH hz hS hq
    obtain ⟨hkc, hks, hw⟩ := hw
    exact zy_out hk hH hz hS htb hq hw hkc hks
  · refine zr_aload_n (r := some h0) hx hb dX11_asked_4 rfl (lv_at hl 0 rfl) ?_
    obtain ⟨a_5, ci_6, fs_7, x_8, er, he, hc, hv, hw⟩ := zgI_e hw
    refine zw_get hk hH er he hv (fk_X11_56 hc) dX11_asked_5 ?_
    refine lv_iconst (v := (-1 : Int32)) hx hb dX11_asked_8 (by decide) ?_
    obtain ⟨P_29, hP_29, hw⟩ := hw
    have hJ_29 : ∀ (hp_9 : zHp) (nx_10 : Nat) (kc_11 : Nat) (ks_12 : Nat) (H : Heap) (locs : List Loc) (ls : Array Slot), P_29 hp_9 nx_10 kc_11 ks_12 → lv_has ls 5 [(0, va_rf (some h0)), (1, va_rf r1)] → zHd g hp_9 H → H.size = nx_10 → va_S (zAd g) s.heap H locs → W p l e (zrm (d + 1) mc ms) s m ([.ref h0, va_rf r1] : List Value).toArray below meth c H locs kc_11 ks_12 (vy_MQ below (zQq g Post) (zXC g "WhatIfSheet$Fault" PostX) ([.ref h0, va_rf r1] : List Value).toArray s mc ms (zAd g)) (F0 m 29 ls []) := by
      intro hp_9 nx_10 kc_11 ks_12 H locs ls hw hl hH hz hS
      have hw := hP_29 hp_9 nx_10 kc_11 ks_12 hw
      refine zr_aload_n (r := some h0) hx hb dX11_asked_29 rfl (lv_at hl 0 rfl) ?_
      obtain ⟨c_13, s_14, hcl, hsl, hw⟩ := hw
      obtain ⟨a_21, ci_22, fs_23, er, he, hc, hw⟩ := zo_e hw
      obtain rfl := List.mem_singleton.mp hc
      refine zr_callq (zw_runV (As := []) hk hH hz hS hl.1 er hw (cwV 0 hts (lw_V q1446 q1448 qs25 q170 q1449) rfl rfl rfl (by decide +kernel) (z_room (Nat.le_of_ble_eq_true rfl))) he rfl rfl rfl (Nat.le_of_ble_eq_true rfl) dX11_asked_30 ⟨hcl, hsl⟩) hS (fun r_17 hp_15 nx_16 hw H locs hH hz hS => ?_)
      obtain ⟨a_18, ci_19, fs_20, er, he, hc, hkc, hks, hw⟩ := zo_e hw
      obtain rfl := List.mem_singleton.mp hc
      exact zy_athrow hk hH hz hS htb er he rfl hw hkc hks dX11_asked_33
    refine lv_icmp_eq (tgt := 29) hx hb dX11_asked_9 (by decide) (fun hc => ?_) (fun hc => ?_)
    · have hw := hw.1 hc
      exact hJ_29 hp_3 nx_4 (0 + c_1) (0 + s_2) _ _ _ hw hl hH hz hS
    · have hw := hw.2 hc
      refine zr_aload_n (r := some h0) hx hb dX11_asked_12 rfl (lv_at hl 0 rfl) ?_
      obtain ⟨a_24, ci_25, fs_26, x_27, er, he, hc, hv, hw⟩ := zgI_e hw
      refine zw_get hk hH er he hv (fk_X11_107 hc) dX11_asked_13 ?_
      refine lv_if_eq (tgt := 29) hx hb dX11_asked_16 (by decide) (fun hc => ?_) (fun hc => ?_)
      · have hw := hw.1 hc
        exact hJ_29 hp_3 nx_4 (0 + c_1) (0 + s_2) _ _ _ hw hl hH hz hS
      · have hw := hw.2 hc
        refine zr_aload_n (r := some h0) hx hb dX11_asked_19 rfl (lv_at hl 0 rfl) ?_
        obtain ⟨a_28, ci_29, fs_30, x_31, er, he, hc, hv, hw⟩ := zgI_e hw
        refine zw_get hk hH er he hv (fk_X11_56 hc) dX11_asked_20 ?_
        refine lv_sipush (v := (5000 : Int32)) hx hb dX11_asked_23 (by decide) ?_
        refine lv_icmp_le (tgt := 34) hx hb dX11_asked_26 (by decide) (fun hc => ?_) (fun hc => ?_)
        · have hw := hw.1 hc
          refine zr_aload_n (r := some h0) hx hb dX11_asked_34 rfl (lv_at hl 0 rfl) ?_
          obtain ⟨a_32, ci_33, fs_34, x_35, er, he, hc, hv, hw⟩ := zgI_e hw
          refine zw_get hk hH er he hv (fk_X11_56 hc) dX11_asked_35 ?_
          refine lv_sipush (v := (1000 : Int32)) hx hb dX11_asked_38 (by decide) ?_
          obtain ⟨hne, hw⟩ := hw
          refine lv_idiv hx hb dX11_asked_41 hne ?_
          refine lv_topi (fun x_36 ex_36 => ?_)
          have hw := hw x_36 ex_36
          refine lv_istore_n (i := 2) (lv' := [(2, .int x_36), (0, va_rf (some h0)), (1, va_rf r1)]) hx hb dX11_asked_42 rfl hl (by decide) (by first | rfl | simp [List.filter_cons, z_cat, z_catI, z_catJ, z_catF, z_catD]) (fun ls hl => ?_)
          refine zr_aload_n (r := some h0) hx hb dX11_asked_43 rfl (lv_at hl 1 rfl) ?_
          obtain ⟨a_37, ci_38, fs_39, r_40, er, he, hc, hv, hw⟩ := zgR_e hw
          refine zw_get hk hH er he hv (fk_X11_27 hc) dX11_asked_44 ?_
          refine lv_iload_n hx hb dX11_asked_47 rfl (lv_at hl 0 rfl) ?_
          obtain ⟨c_41, s_42, hcl, hsl, hw⟩ := hw
          refine zr_callq (zr_runS (As := [.int x_36]) hk hH hz hS hl.1 hw (va_cwS 1 hts (lw_S q1647 q735 q149 q736) rfl rfl rfl (by decide +kernel) (z_room (Nat.le_of_ble_eq_true rfl))) rfl rfl (by simp only [List.map_cons, List.map_nil, z_cat]; exact Nat.le_of_ble_eq_true rfl) dX11_asked_48 ⟨hcl, hsl⟩) hS (fun r_45 hp_43 nx_44 hw H locs hH hz hS => ?_)
          obtain ⟨c_46, s_47, hcl, hsl, hw⟩ := hw
          obtain ⟨a_165, ci_166, fs_167, er, he, hc, hw⟩ := zo_e hw
          obtain rfl := List.mem_singleton.mp hc
          refine zr_calli (zw_runV (As := [va_rf r_45]) hk hH hz hS hl.1 er hw (cwV 1 hts (lw_V q1648 q1649 q1650 q173 q1651) rfl rfl rfl (by decide +kernel) (z_room (Nat.le_of_ble_eq_true rfl))) he rfl rfl rfl (Nat.le_of_ble_eq_true rfl) dX11_asked_51 ⟨hcl, hsl⟩) hS (fun x_50 hp_48 nx_49 hw H locs hH hz hS => ?_)
          refine lv_pop hx hb dX11_asked_54 rfl ?_
          refine zr_aload_n (r := some h0) hx hb dX11_asked_55 rfl (lv_at hl 1 rfl) ?_
          obtain ⟨c_51, s_52, hcl, hsl, hw⟩ := hw
          obtain ⟨a_162, ci_163, fs_164, er, he, hc, hw⟩ := zo_e hw
          obtain rfl := List.mem_singleton.mp hc
          refine zy_callv (zy_runV (As := []) hk hH hz hS hl.1 er hw (cwV 0 hts (lw_V q1393 q1395 qs20 q170 q1396) rfl rfl rfl (by decide +kernel) (z_room (Nat.le_of_ble_eq_true rfl))) he rfl rfl rfl (Nat.le_of_ble_eq_true rfl) dX11_asked_56 ⟨hcl, hsl⟩) hS ?_ (fun hp_53 nx_54 hw H locs hH hz hS => ?_)
          · intro q_159 hp_160 nx_161 hw H locs hH hz hS hq
            obtain ⟨hkc, hks, hw⟩ := hw
            exact zy_out hk hH hz hS htb hq hw hkc hks
          · refine zr_aload_n (r := r1) hx hb dX11_asked_59 rfl (lv_at hl 2 rfl) ?_
            refine zr_astore_n (r := r1) (i := 3) (lv' := [(3, va_rf r1), (2, .int x_36), (0, va_rf (some h0)), (1, va_rf r1)]) hx hb dX11_asked_60 rfl hl (by decide) (by first | rfl | simp [List.filter_cons, z_cat, z_catI, z_catJ, z_catF, z_catD]) (fun ls hl => ?_)
            refine lv_iconst (v := (-1 : Int32)) hx hb dX11_asked_61 (by decide) ?_
            refine lv_istore (lv' := [(4, .int (-1 : Int32)), (3, va_rf r1), (2, .int x_36), (0, va_rf (some h0)), (1, va_rf r1)]) hx hb dX11_asked_62 hl (by decide) (by first | rfl | simp [List.filter_cons, z_cat, z_catI, z_catJ, z_catF, z_catD]) (fun ls hl => ?_)
            refine zr_aload_n (r := r1) hx hb dX11_asked_64 rfl (lv_at hl 1 rfl) ?_
            obtain ⟨c_55, s_56, hcl, hsl, hw⟩ := hw
            obtain ⟨a_156, ci_157, fs_158, er, he, hc, hw⟩ := zo_e hw
            obtain rfl := List.mem_singleton.mp hc
            refine zr_calli (zw_runV (As := []) hk hH hz hS hl.1 er hw (cwV 0 hts (lw_V q1677 q1678 q1679 q140 q1680) rfl rfl rfl (by decide +kernel) (z_room (Nat.le_of_ble_eq_true rfl))) he rfl rfl rfl (Nat.le_of_ble_eq_true rfl) dX11_asked_65 ⟨hcl, hsl⟩) hS (fun x_59 hp_57 nx_58 hw H locs hH hz hS => ?_)
            obtain ⟨P_169, hP_169, hw⟩ := hw
            have hJ_169 : ∀ (x_60 : Int32) (r_61 : Option Nat) (x_62 : Int32) (hp_63 : zHp) (nx_64 : Nat) (kc_65 : Nat) (ks_66 : Nat) (H : Heap) (locs : List Loc) (ls : Array Slot), P_169 x_60 r_61 x_62 hp_63 nx_64 kc_65 ks_66 → lv_has ls 5 [(0, va_rf (some h0)), (1, va_rf r1), (2, .int x_60), (3, va_rf r_61), (4, .int x_62)] → zHd g hp_63 H → H.size = nx_64 → va_S (zAd g) s.heap H locs → W p l e (zrm (d + 1) mc ms) s m ([.ref h0, va_rf r1] : List Value).toArray below meth c H locs kc_65 ks_66 (vy_MQ below (zQq g Post) (zXC g "WhatIfSheet$Fault" PostX) ([.ref h0, va_rf r1] : List Value).toArray s mc ms (zAd g)) (F0 m 169 ls []) := by
              intro x_60 r_61 x_62 hp_63 nx_64 kc_65 ks_66 H locs ls hw hl hH hz hS
              have hw := hP_169 x_60 r_61 x_62 hp_63 nx_64 kc_65 ks_66 hw
              refine lv_iload hx hb dX11_asked_169 (lv_at hl 4 rfl) ?_
              by_cases hc0 : x_62 = (0 : Int32)
              · have hw := hw.1 hc0
                refine lv_tableIn (tgt := 200) hx hb dX11_asked_171 (by rw [hc0]; decide) (by rw [hc0]; decide) (by rw [hc0]; rfl) (by decide) ?_
                obtain ⟨hcl, hsl, hw⟩ := hw
                refine zx_new hk hH hz hS (ci := 18) no_X11_144 hcl hsl dX11_asked_200 (fun H hH hz hS hlt hnb => ?_)
                have hw := hw hlt hnb
                generalize va_up hp_63 nx_64 _ = hp_67 at hH hw
                obtain ⟨kc_69, ekc⟩ : ∃ k, k = (kc_65 + 1) := ⟨_, rfl⟩
                obtain ⟨ks_70, eks⟩ : ∃ k, k = (ks_66 + zNn 18) := ⟨_, rfl⟩
                have hw := hw _ _ _ rfl ekc eks
                refine W.widen (Nat.le_of_eq ekc.symm) (Nat.le_of_eq eks.symm) ?_
                clear ekc eks
                generalize (nx_64 + 1) = nx_68 at hz hw
                refine lv_dup hx hb dX11_asked_203 (z_cat _) ?_
                refine zr_aload_n (r := some h0) hx hb dX11_asked_204 rfl (lv_at hl 0 rfl) ?_
                obtain ⟨a_71, ci_72, fs_73, r_74, er, he, hc, hv, hw⟩ := zgR_e hw
                refine zw_get hk hH er he hv (fk_X11_3 hc) dX11_asked_205 ?_
                refine lv_iload_n hx hb dX11_asked_208 rfl (lv_at hl 2 rfl) ?_
                obtain ⟨hcl, hsl, hw⟩ := hw
                refine zr_callv (zw_runI (As := [va_rf r_74, .int x_60]) (r := some nx_64) hk hH hz hS hl.1 rfl hw (cwI 2 hts (lw_meth q1730) rfl rfl rfl (hts _ q182) (hts _ q1728) (hts _ q1729) rfl (by decide +kernel) (z_room (Nat.le_of_ble_eq_true rfl))) rfl rfl (by simp only [List.map_cons, List.map_nil, z_cat]; exact Nat.le_of_ble_eq_true rfl) dX11_asked_209 ⟨hcl, hsl⟩) hS (fun hp_75 nx_76 hw H locs hH hz hS => ?_)
                obtain ⟨hkc, hks, hw⟩ := hw
                exact vy_ret (zr_aret (r := some nx_64) hk hr (Or.inl ⟨_, rfl⟩) hH hz hS hw hkc hks dX11_asked_212)
              by_cases hc1 : x_62 = (1 : Int32)
              · have hw := hw.2.1 hc1
                refine lv_tableIn (tgt := 213) hx hb dX11_asked_171 (by rw [hc1]; decide) (by rw [hc1]; decide) (by rw [hc1]; rfl) (by decide) ?_
                obtain ⟨hcl, hsl, hw⟩ := hw
                refine zx_new hk hH hz hS (ci := 19) no_X11_149 hcl hsl dX11_asked_213 (fun H hH hz hS hlt hnb => ?_)
                have hw := hw hlt hnb
                generalize va_up hp_63 nx_64 _ = hp_80 at hH hw
                obtain ⟨kc_82, ekc⟩ : ∃ k, k = (kc_65 + 1) := ⟨_, rfl⟩
                obtain ⟨ks_83, eks⟩ : ∃ k, k = (ks_66 + zNn 19) := ⟨_, rfl⟩
                have hw := hw _ _ _ rfl ekc eks
                refine W.widen (Nat.le_of_eq ekc.symm) (Nat.le_of_eq eks.symm) ?_
                clear ekc eks
                generalize (nx_64 + 1) = nx_81 at hz hw
                refine lv_dup hx hb dX11_asked_216 (z_cat _) ?_
                refine zr_aload_n (r := some h0) hx hb dX11_asked_217 rfl (lv_at hl 0 rfl) ?_
                obtain ⟨a_84, ci_85, fs_86, r_87, er, he, hc, hv, hw⟩ := zgR_e hw
                refine zw_get hk hH er he hv (fk_X11_3 hc) dX11_asked_218 ?_
                refine lv_iload_n hx hb dX11_asked_221 rfl (lv_at hl 2 rfl) ?_
                obtain ⟨hcl, hsl, hw⟩ := hw
                refine zr_callv (zw_runI (As := [va_rf r_87, .int x_60]) (r := some nx_64) hk hH hz hS hl.1 rfl hw (cwI 2 hts (lw_meth q1750) rfl rfl rfl (hts _ q183) (hts _ q1748) (hts _ q1749) rfl (by decide +kernel) (z_room (Nat.le_of_ble_eq_true rfl))) rfl rfl (by simp only [List.map_cons, List.map_nil, z_cat]; exact Nat.le_of_ble_eq_true rfl) dX11_asked_222 ⟨hcl, hsl⟩) hS (fun hp_88 nx_89 hw H locs hH hz hS => ?_)
                obtain ⟨hkc, hks, hw⟩ := hw
                exact vy_ret (zr_aret (r := some nx_64) hk hr (Or.inl ⟨_, rfl⟩) hH hz hS hw hkc hks dX11_asked_225)
              by_cases hc2 : x_62 = (2 : Int32)
              · have hw := hw.2.2.1 hc2
                refine lv_tableIn (tgt := 226) hx hb dX11_asked_171 (by rw [hc2]; decide) (by rw [hc2]; decide) (by rw [hc2]; rfl) (by decide) ?_
                obtain ⟨hcl, hsl, hw⟩ := hw
                refine zx_new hk hH hz hS (ci := 20) no_X11_152 hcl hsl dX11_asked_226 (fun H hH hz hS hlt hnb => ?_)
                have hw := hw hlt hnb
                generalize va_up hp_63 nx_64 _ = hp_93 at hH hw
                obtain ⟨kc_95, ekc⟩ : ∃ k, k = (kc_65 + 1) := ⟨_, rfl⟩
                obtain ⟨ks_96, eks⟩ : ∃ k, k = (ks_66 + zNn 20) := ⟨_, rfl⟩
                have hw := hw _ _ _ rfl ekc eks
                refine W.widen (Nat.le_of_eq ekc.symm) (Nat.le_of_eq eks.symm) ?_
                clear ekc eks
                generalize (nx_64 + 1) = nx_94 at hz hw
                refine lv_dup hx hb dX11_asked_229 (z_cat _) ?_
                refine zr_aload_n (r := some h0) hx hb dX11_asked_230 rfl (lv_at hl 0 rfl) ?_
                obtain ⟨a_97, ci_98, fs_99, r_100, er, he, hc, hv, hw⟩ := zgR_e hw
                refine zw_get hk hH er he hv (fk_X11_3 hc) dX11_asked_231 ?_
                refine lv_iload_n hx hb dX11_asked_234 rfl (lv_at hl 2 rfl) ?_
                obtain ⟨hcl, hsl, hw⟩ := hw
                refine zr_callv (zw_runI (As := [va_rf r_100, .int x_60]) (r := some nx_64) hk hH hz hS hl.1 rfl hw (cwI 2 hts (lw_meth q1763) rfl rfl rfl (hts _ q184) (hts _ q1761) (hts _ q1762) rfl (by decide +kernel) (z_room (Nat.le_of_ble_eq_true rfl))) rfl rfl (by simp only [List.map_cons, List.map_nil, z_cat]; exact Nat.le_of_ble_eq_true rfl) dX11_asked_235 ⟨hcl, hsl⟩) hS (fun hp_101 nx_102 hw H locs hH hz hS => ?_)
                obtain ⟨hkc, hks, hw⟩ := hw
                exact vy_ret (zr_aret (r := some nx_64) hk hr (Or.inl ⟨_, rfl⟩) hH hz hS hw hkc hks dX11_asked_238)
              by_cases hc3 : x_62 = (3 : Int32)
              · have hw := hw.2.2.2.1 hc3
                refine lv_tableIn (tgt := 239) hx hb dX11_asked_171 (by rw [hc3]; decide) (by rw [hc3]; decide) (by rw [hc3]; rfl) (by decide) ?_
                obtain ⟨hcl, hsl, hw⟩ := hw
                refine zx_new hk hH hz hS (ci := 21) no_X11_155 hcl hsl dX11_asked_239 (fun H hH hz hS hlt hnb => ?_)
                have hw := hw hlt hnb
                generalize va_up hp_63 nx_64 _ = hp_106 at hH hw
                obtain ⟨kc_108, ekc⟩ : ∃ k, k = (kc_65 + 1) := ⟨_, rfl⟩
                obtain ⟨ks_109, eks⟩ : ∃ k, k = (ks_66 + zNn 21) := ⟨_, rfl⟩
                have hw := hw _ _ _ rfl ekc eks
                refine W.widen (Nat.le_of_eq ekc.symm) (Nat.le_of_eq eks.symm) ?_
                clear ekc eks
                generalize (nx_64 + 1) = nx_107 at hz hw
                refine lv_dup hx hb dX11_asked_242 (z_cat _) ?_
                refine zr_aload_n (r := some h0) hx hb dX11_asked_243 rfl (lv_at hl 0 rfl) ?_
                obtain ⟨a_110, ci_111, fs_112, r_113, er, he, hc, hv, hw⟩ := zgR_e hw
                refine zw_get hk hH er he hv (fk_X11_3 hc) dX11_asked_244 ?_
                refine lv_iload_n hx hb dX11_asked_247 rfl (lv_at hl 2 rfl) ?_
                obtain ⟨hcl, hsl, hw⟩ := hw
                refine zr_callv (zw_runI (As := [va_rf r_113, .int x_60]) (r := some nx_64) hk hH hz hS hl.1 rfl hw (cwI 2 hts (lw_meth q1777) rfl rfl rfl (hts _ q185) (hts _ q1775) (hts _ q1776) rfl (by decide +kernel) (z_room (Nat.le_of_ble_eq_true rfl))) rfl rfl (by simp only [List.map_cons, List.map_nil, z_cat]; exact Nat.le_of_ble_eq_true rfl) dX11_asked_248 ⟨hcl, hsl⟩) hS (fun hp_114 nx_115 hw H locs hH hz hS => ?_)
                obtain ⟨hkc, hks, hw⟩ := hw
                exact vy_ret (zr_aret (r := some nx_64) hk hr (Or.inl ⟨_, rfl⟩) hH hz hS hw hkc hks dX11_asked_251)
              have hw := hw.2.2.2.2 ⟨hc0, hc1, hc2, hc3⟩
              refine lv_tableOut (tgt := 252) hx hb dX11_asked_171 (by have h0 := lv_neT hc0 (a := 0) (by decide); have h1 := lv_neT hc1 (a := 1) (by decide); have h2 := lv_neT hc2 (a := 2) (by decide); have h3 := lv_neT hc3 (a := 3) (by decide); omega) (by decide) ?_
              obtain ⟨hcl, hsl, hw⟩ := hw
              refine zx_new hk hH hz hS (ci := 22) no_X11_158 hcl hsl dX11_asked_252 (fun H hH hz hS hlt hnb => ?_)
              have hw := hw hlt hnb
              generalize va_up hp_63 nx_64 _ = hp_119 at hH hw
              obtain ⟨kc_121, ekc⟩ : ∃ k, k = (kc_65 + 1) := ⟨_, rfl⟩
              obtain ⟨ks_122, eks⟩ : ∃ k, k = (ks_66 + zNn 22) := ⟨_, rfl⟩
              have hw := hw _ _ _ rfl ekc eks
              refine W.widen (Nat.le_of_eq ekc.symm) (Nat.le_of_eq eks.symm) ?_
              clear ekc eks
              generalize (nx_64 + 1) = nx_120 at hz hw
              refine lv_dup hx hb dX11_asked_255 (z_cat _) ?_
              refine zr_aload_n (r := some h0) hx hb dX11_asked_256 rfl (lv_at hl 0 rfl) ?_
              obtain ⟨a_123, ci_124, fs_125, r_126, er, he, hc, hv, hw⟩ := zgR_e hw
              refine zw_get hk hH er he hv (fk_X11_3 hc) dX11_asked_257 ?_
              refine lv_iload_n hx hb dX11_asked_260 rfl (lv_at hl 2 rfl) ?_
              obtain ⟨hcl, hsl, hw⟩ := hw
              refine zr_callv (zw_runI (As := [va_rf r_126, .int x_60]) (r := some nx_64) hk hH hz hS hl.1 rfl hw (cwI 2 hts (lw_meth q1792) rfl rfl rfl (hts _ q186) (hts _ q1790) (hts _ q1791) rfl (by decide +kernel) (z_room (Nat.le_of_ble_eq_true rfl))) rfl rfl (by simp only [List.map_cons, List.map_nil, z_cat]; exact Nat.le_of_ble_eq_true rfl) dX11_asked_261 ⟨hcl, hsl⟩) hS (fun hp_127 nx_128 hw H locs hH hz hS => ?_)
              obtain ⟨hkc, hks, hw⟩ := hw
              exact vy_ret (zr_aret (r := some nx_64) hk hr (Or.inl ⟨_, rfl⟩) hH hz hS hw hkc hks dX11_asked_264)
            by_cases hc0 : x_59 = (114251 : Int32)
            · have hw := hw.1 hc0
              refine lv_lookup (tgt := 112) hx hb dX11_asked_68 (by decide) (by first | (rw [hc0]; done) | (rw [hc0]; rfl)) (by decide) ?_
              refine zr_aload_n (r := r1) hx hb dX11_asked_112 rfl (lv_at hl 1 rfl) ?_
              refine zw_ldcS hk 4 rfl dX11_asked_113 ?_
              obtain ⟨hcl, hsl, hw⟩ := hw
              obtain ⟨a_135, ci_136, fs_137, er, he, hc, hw⟩ := zo_e hw
              obtain rfl := List.mem_singleton.mp hc
              refine zr_calli (zw_runV (As := [va_rf (some (g.2.2.2.2 4))]) hk hH hz hS hl.1 er hw (cwV 1 hts (lw_V q1548 q811 q3358 q140 q812) rfl rfl rfl (by decide +kernel) (z_room (Nat.le_of_ble_eq_true rfl))) he rfl rfl rfl (Nat.le_of_ble_eq_true rfl) dX11_asked_115 ⟨hcl, hsl⟩) hS (fun x_134 hp_132 nx_133 hw H locs hH hz hS => ?_)
              refine lv_if_eq (tgt := 169) hx hb dX11_asked_118 (by decide) (fun hc => ?_) (fun hc => ?_)
              · have hw := hw.1 hc
                exact hJ_169 x_36 r1 (-1 : Int32) hp_132 nx_133 (((((0 + c_1) + c_41) + c_46) + c_51) + c_55) (((((0 + s_2) + s_42) + s_47) + s_52) + s_56) _ _ _ hw (lv_sub hl [3, 4, 2, 1, 0] rfl) hH hz hS
              · have hw := hw.2 hc
                refine lv_iconst (v := (0 : Int32)) hx hb dX11_asked_121 (by decide) ?_
                refine lv_istore (lv' := [(4, .int (0 : Int32)), (3, va_rf r1), (2, .int x_36), (0, va_rf (some h0)), (1, va_rf r1)]) hx hb dX11_asked_122 hl (by decide) (by first | rfl | simp [List.filter_cons, z_cat, z_catI, z_catJ, z_catF, z_catD]) (fun ls hl => ?_)
                refine lv_goto (tgt := 169) hx hb dX11_asked_124 (by decide) ?_
                exact hJ_169 x_36 r1 (0 : Int32) hp_132 nx_133 (((((0 + c_1) + c_41) + c_46) + c_51) + c_55) (((((0 + s_2) + s_42) + s_47) + s_52) + s_56) _ _ _ hw (lv_sub hl [3, 4, 2, 1, 0] rfl) hH hz hS
            by_cases hc1 : x_59 = (3347397 : Int32)
            · have hw := hw.2.1 hc1
              refine lv_lookup (tgt := 127) hx hb dX11_asked_68 (by decide) (by first | (rw [hc1]; done) | (rw [hc1]; rfl)) (by decide) ?_
              refine zr_aload_n (r := r1) hx hb dX11_asked_127 rfl (lv_at hl 1 rfl) ?_
              refine zw_ldcS hk 5 rfl dX11_asked_128 ?_
              obtain ⟨hcl, hsl, hw⟩ := hw
              obtain ⟨a_141, ci_142, fs_143, er, he, hc, hw⟩ := zo_e hw
              obtain rfl := List.mem_singleton.mp hc
              refine zr_calli (zw_runV (As := [va_rf (some (g.2.2.2.2 5))]) hk hH hz hS hl.1 er hw (cwV 1 hts (lw_V q1548 q811 q3358 q140 q812) rfl rfl rfl (by decide +kernel) (z_room (Nat.le_of_ble_eq_true rfl))) he rfl rfl rfl (Nat.le_of_ble_eq_true rfl) dX11_asked_130 ⟨hcl, hsl⟩) hS (fun x_140 hp_138 nx_139 hw H locs hH hz hS => ?_)
              refine lv_if_eq (tgt := 169) hx hb dX11_asked_133 (by decide) (fun hc => ?_) (fun hc => ?_)
              · have hw := hw.1 hc
                exact hJ_169 x_36 r1 (-1 : Int32) hp_138 nx_139 (((((0 + c_1) + c_41) + c_46) + c_51) + c_55) (((((0 + s_2) + s_42) + s_47) + s_52) + s_56) _ _ _ hw (lv_sub hl [3, 4, 2, 1, 0] rfl) hH hz hS
              · have hw := hw.2 hc
                refine lv_iconst (v := (1 : Int32)) hx hb dX11_asked_136 (by decide) ?_
                refine lv_istore (lv' := [(4, .int (1 : Int32)), (3, va_rf r1), (2, .int x_36), (0, va_rf (some h0)), (1, va_rf r1)]) hx hb dX11_asked_137 hl (by decide) (by first | rfl | simp [List.filter_cons, z_cat, z_catI, z_catJ, z_catF, z_catD]) (fun ls hl => ?_)
                refine lv_goto (tgt := 169) hx hb dX11_asked_139 (by decide) ?_
                exact hJ_169 x_36 r1 (1 : Int32) hp_138 nx_139 (((((0 + c_1) + c_41) + c_46) + c_51) + c_55) (((((0 + s_2) + s_42) + s_47) + s_52) + s_56) _ _ _ hw (lv_sub hl [3, 4, 2, 1, 0] rfl) hH hz hS
            by_cases hc2 : x_59 = (3357571 : Int32)
            · have hw := hw.2.2.1 hc2
              refine lv_lookup (tgt := 157) hx hb dX11_asked_68 (by decide) (by first | (rw [hc2]; done) | (rw [hc2]; rfl)) (by decide) ?_
              refine zr_aload_n (r := r1) hx hb dX11_asked_157 rfl (lv_at hl 1 rfl) ?_
              refine zw_ldcS hk 7 rfl dX11_asked_158 ?_
              obtain ⟨hcl, hsl, hw⟩ := hw
              obtain ⟨a_147, ci_148, fs_149, er, he, hc, hw⟩ := zo_e hw
              obtain rfl := List.mem_singleton.mp hc
              refine zr_calli (zw_runV (As := [va_rf (some (g.2.2.2.2 7))]) hk hH hz hS hl.1 er hw (cwV 1 hts (lw_V q1548 q811 q3358 q140 q812) rfl rfl rfl (by decide +kernel) (z_room (Nat.le_of_ble_eq_true rfl))) he rfl rfl rfl (Nat.le_of_ble_eq_true rfl) dX11_asked_160 ⟨hcl, hsl⟩) hS (fun x_146 hp_144 nx_145 hw H locs hH hz hS => ?_)
              refine lv_if_eq (tgt := 169) hx hb dX11_asked_163 (by decide) (fun hc => ?_) (fun hc => ?_)
              · have hw := hw.1 hc
                exact hJ_169 x_36 r1 (-1 : Int32) hp_144 nx_145 (((((0 + c_1) + c_41) + c_46) + c_51) + c_55) (((((0 + s_2) + s_42) + s_47) + s_52) + s_56) _ _ _ hw (lv_sub hl [3, 4, 2, 1, 0] rfl) hH hz hS
              · have hw := hw.2 hc
                refine lv_iconst (v := (3 : Int32)) hx hb dX11_asked_166 (by decide) ?_
                refine lv_istore (lv' := [(4, .int (3 : Int32)), (3, va_rf r1), (2, .int x_36), (0, va_rf (some h0)), (1, va_rf r1)]) hx hb dX11_asked_167 hl (by decide) (by first | rfl | simp [List.filter_cons, z_cat, z_catI, z_catJ, z_catF, z_catD]) (fun ls hl => ?_)
                exact hJ_169 x_36 r1 (3 : Int32) hp_144 nx_145 (((((0 + c_1) + c_41) + c_46) + c_51) + c_55) (((((0 + s_2) + s_42) + s_47) + s_52) + s_56) _ _ _ hw (lv_sub hl [3, 4, 2, 1, 0] rfl) hH hz hS
            by_cases hc3 : x_59 = (102846057 : Int32)
            · have hw := hw.2.2.2.1 hc3
              refine lv_lookup (tgt := 142) hx hb dX11_asked_68 (by decide) (by first | (rw [hc3]; done) | (rw [hc3]; rfl)) (by decide) ?_
              refine zr_aload_n (r := r1) hx hb dX11_asked_142 rfl (lv_at hl 1 rfl) ?_
              refine zw_ldcS hk 6 rfl dX11_asked_143 ?_
              obtain ⟨hcl, hsl, hw⟩ := hw
              obtain ⟨a_153, ci_154, fs_155, er, he, hc, hw⟩ := zo_e hw
              obtain rfl := List.mem_singleton.mp hc
              refine zr_calli (zw_runV (As := [va_rf (some (g.2.2.2.2 6))]) hk hH hz hS hl.1 er hw (cwV 1 hts (lw_V q1548 q811 q3358 q140 q812) rfl rfl rfl (by decide +kernel) (z_room (Nat.le_of_ble_eq_true rfl))) he rfl rfl rfl (Nat.le_of_ble_eq_true rfl) dX11_asked_145 ⟨hcl, hsl⟩) hS (fun x_152 hp_150 nx_151 hw H locs hH hz hS => ?_)
              refine lv_if_eq (tgt := 169) hx hb dX11_asked_148 (by decide) (fun hc => ?_) (fun hc => ?_)
              · have hw := hw.1 hc
                exact hJ_169 x_36 r1 (-1 : Int32) hp_150 nx_151 (((((0 + c_1) + c_41) + c_46) + c_51) + c_55) (((((0 + s_2) + s_42) + s_47) + s_52) + s_56) _ _ _ hw (lv_sub hl [3, 4, 2, 1, 0] rfl) hH hz hS
              · have hw := hw.2 hc
                refine lv_iconst (v := (2 : Int32)) hx hb dX11_asked_151 (by decide) ?_
                refine lv_istore (lv' := [(4, .int (2 : Int32)), (3, va_rf r1), (2, .int x_36), (0, va_rf (some h0)), (1, va_rf r1)]) hx hb dX11_asked_152 hl (by decide) (by first | rfl | simp [List.filter_cons, z_cat, z_catI, z_catJ, z_catF, z_catD]) (fun ls hl => ?_)
                refine lv_goto (tgt := 169) hx hb dX11_asked_154 (by decide) ?_
                exact hJ_169 x_36 r1 (2 : Int32) hp_150 nx_151 (((((0 + c_1) + c_41) + c_46) + c_51) + c_55) (((((0 + s_2) + s_42) + s_47) + s_52) + s_56) _ _ _ hw (lv_sub hl [3, 4, 2, 1, 0] rfl) hH hz hS
            have hw := hw.2.2.2.2 ⟨hc0, hc1, hc2, hc3⟩
            refine lv_lookup (tgt := 169) (off := 101) hx hb dX11_asked_68 (by decide) (by refine (lv_osw hc0 (by decide)).trans ?_; refine (lv_osw hc1 (by decide)).trans ?_; refine (lv_osw hc2 (by decide)).trans ?_; refine (lv_osw hc3 (by decide)).trans ?_; rfl) (by decide) ?_
            exact hJ_169 x_36 r1 (-1 : Int32) hp_57 nx_58 (((((0 + c_1) + c_41) + c_46) + c_51) + c_55) (((((0 + s_2) + s_42) + s_47) + s_52) + s_56) _ _ _ hw (lv_sub hl [3, 4, 2, 1, 0] rfl) hH hz hS
        · have hw := hw.2 hc
          exact hJ_29 hp_3 nx_4 (0 + c_1) (0 + s_2) _ _ _ hw hl hH hz hS
theorem ff_X12_7 {ci : Nat} (h : ci ∈ [12]) : zFf "WhatIfSheet$Fault" 7 ci 6 .int := by
  simp only [List.mem_cons, List.not_mem_nil, or_false] at h
  rcases h with rfl
  · exact ⟨RX12, TX12, 7, rfl, by decide, q1466, rfl, rfl, by decide +kernel⟩
def wp_X12_init (l : Launch) (g : zG) (d : Nat) (mc ms : Nat) (h0 : Nat) (x1 : Int32) (hp : zHp) (nx : Nat) (Post : zHp → Nat → Prop) : Prop :=
  (∃ c_1 s_2 : Nat, 0 + c_1 ≤ mc ∧ 0 + s_2 ≤ ms ∧ zMt l g yJ3_init_4 cJ3_init_4 5 none d c_1 s_2 (.ref h0 :: [va_rf none, va_rf none, .int (0 : Int32), .int (0 : Int32)]) hp nx (zQv g fun hp_3 nx_4 =>
  (zpt g hp_3 (some h0) [12] 6 (.int x1) fun hp_8 =>
  ((0 + c_1) ≤ mc ∧ (0 + s_2) ≤ ms ∧ Post hp_8 nx_4))))
set_option maxHeartbeats 40000000 in
theorem met_X12_init {l : Launch} {g : zG} {d : Nat} {mc ms : Nat} {h0 : Nat} {x1 : Int32} {hp : zHp} {nx : Nat} {Post : zHp → Nat → Prop} (hw : wp_X12_init l g d mc ms h0 x1 hp nx Post) : zMt l g yX12_init cX12_init 2 none (d + 1) mc ms [.ref h0, .int x1] hp nx (zQv g Post) := by
  refine z_start (by decide) (Nat.le_of_ble_eq_true rfl) ?_
  intro p e s m below meth c hk hr hin hH hz ls hl
  have hx := hk.1.1
  have hb := hk.1.2.1
  have hown := hk.1.2.2.2.1
  have hts := hk.1.2.2.2.2
  have hS : va_S (zAd g) s.heap s.heap [] := va_S.rf
  have hl : lv_has ls 2 [(0, va_rf (some h0)), (1, .int x1)] := hl
  unfold wp_X12_init at hw
  refine zr_aload_n (r := some h0) hx hb dX12_init_0 rfl (lv_at hl 0 rfl) ?_
  refine zx_null hx hb dX12_init_1 ?_
  refine zx_null hx hb dX12_init_2 ?_
  refine lv_iconst (v := (0 : Int32)) hx hb dX12_init_3 (by decide) ?_
  refine lv_iconst (v := (0 : Int32)) hx hb dX12_init_4 (by decide) ?_
  obtain ⟨c_1, s_2, hcl, hsl, hw⟩ := hw
  refine zr_callv (zw_runI (As := [va_rf none, va_rf none, .int (0 : Int32), .int (0 : Int32)]) (r := some h0) hk hH hz hS hl.1 rfl hw (cwI 4 hts (lw_meth q1464) rfl rfl rfl (hts _ q136) (hts _ q1462) (hts _ q1463) rfl (by decide +kernel) (z_room (Nat.le_of_ble_eq_true rfl))) rfl rfl (Nat.le_of_ble_eq_true rfl) dX12_init_5 ⟨hcl, hsl⟩) hS (fun hp_3 nx_4 hw H locs hH hz hS => ?_)
  refine zr_aload_n (r := some h0) hx hb dX12_init_8 rfl (lv_at hl 0 rfl) ?_
  refine lv_iload_n hx hb dX12_init_9 rfl (lv_at hl 1 rfl) ?_
  obtain ⟨a_5, ci_6, fs_7, hp_8, er, he, hc, hA, hkl, eh, hw⟩ := zpt_e hw
  refine zw_putF hk hin hH hz hS er he hA hkl eh (ff_X12_7 hc) rfl rfl dX12_init_10 (fun H locs hH hz hS => ?_)
  obtain ⟨hkc, hks, hw⟩ := hw
  exact zr_vret hk hr hH hz hS hw hkc hks dX12_init_13
theorem fm_X13_1 {ci : Nat} (h : ci ∈ [14, 16, 17, 18, 19, 20, 21, 22, 23, 24, 25, 26, 27, 29]) : zFf "WhatIfSheet$Node" 1 ci ((fun ci => if ci ∈ [16, 17, 29] then 3 else 0) ci) (.object "WhatIfSheet") := by
  simp only [List.mem_cons, List.not_mem_nil, or_false] at h
  rcases h with rfl | rfl | rfl | rfl | rfl | rfl | rfl | rfl | rfl | rfl | rfl | rfl | rfl | rfl
  · exact ⟨RX14, TX14, 5, rfl, by decide, q1582, rfl, rfl, by decide +kernel⟩
  · exact ⟨RX16, TX16, 5, rfl, by decide, q1582, rfl, rfl, by decide +kernel⟩
  · exact ⟨RX17, TX17, 6, rfl, by decide, q1582, rfl, rfl, by decide +kernel⟩
  · exact ⟨RX18, TX18, 3, rfl, by decide, q1582, rfl, rfl, by decide +kernel⟩
  · exact ⟨RX19, TX19, 4, rfl, by decide, q1582, rfl, rfl, by decide +kernel⟩
  · exact ⟨RX20, TX20, 5, rfl, by decide, q1582, rfl, rfl, by decide +kernel⟩
  · exact ⟨RX21, TX21, 6, rfl, by decide, q1582, rfl, rfl, by decide +kernel⟩
  · exact ⟨RX22, TX22, 4, rfl, by decide, q1582, rfl, rfl, by decide +kernel⟩
  · exact ⟨RX23, TX23, 3, rfl, by decide, q1582, rfl, rfl, by decide +kernel⟩
  · exact ⟨RX24, TX24, 3, rfl, by decide, q1582, rfl, rfl, by decide +kernel⟩
  · exact ⟨RX25, TX25, 3, rfl, by decide, q1582, rfl, rfl, by decide +kernel⟩
  · exact ⟨RX26, TX26, 5, rfl, by decide, q1582, rfl, rfl, by decide +kernel⟩
  · exact ⟨RX27, TX27, 6, rfl, by decide, q1582, rfl, rfl, by decide +kernel⟩
  · exact ⟨RX29, TX29, 6, rfl, by decide, q1582, rfl, rfl, by decide +kernel⟩
def wp_X13_init (l : Launch) (g : zG) (d : Nat) (h0 : Nat) (r1 : Option Nat) (hp : zHp) (nx : Nat) (Post : zHp → Nat → Prop) : Prop :=
  (zptk g hp (some h0) [14, 16, 17, 18, 19, 20, 21, 22, 23, 24, 25, 26, 27, 29] (fun ci => if ci ∈ [16, 17, 29] then 3 else 0) (va_rf r1) fun hp_4 =>
  (Post hp_4 nx))
set_option maxHeartbeats 40000000 in
theorem met_X13_init {l : Launch} {g : zG} {d : Nat} {h0 : Nat} {r1 : Option Nat} {hp : zHp} {nx : Nat} {Post : zHp → Nat → Prop} (hw : wp_X13_init l g d h0 r1 hp nx Post) : zMt l g yX13_init cX13_init 2 none (d + 1) 0 0 [.ref h0, va_rf r1] hp nx (zQv g Post) := by
  refine z_start (by decide) (by cases r1 <;> exact Nat.le_of_ble_eq_true rfl) ?_
  intro p e s m below meth c hk hr hin hH hz ls hl
  have hx := hk.1.1
  have hb := hk.1.2.1
  have hown := hk.1.2.2.2.1
  have hts := hk.1.2.2.2.2
  have hS : va_S (zAd g) s.heap s.heap [] := va_S.rf
  have hl : lv_has ls 2 [(0, va_rf (some h0)), (1, va_rf r1)] := by cases r1 <;> exact hl
  unfold wp_X13_init at hw
  refine zr_aload_n (r := some h0) hx hb dX13_init_0 rfl (lv_at hl 0 rfl) ?_
  refine zr_aload_n (r := r1) hx hb dX13_init_1 rfl (lv_at hl 1 rfl) ?_
  obtain ⟨a_1, ci_2, fs_3, hp_4, er, he, hc, hA, hkl, eh, hw⟩ := zptk_e hw
  refine zw_putF hk hin hH hz hS er he hA hkl eh (fm_X13_1 hc) (z_narR _ _) (z_fitR _ _) dX13_init_2 (fun H locs hH hz hS => ?_)
  refine zr_aload_n (r := some h0) hx hb dX13_init_5 rfl (lv_at hl 0 rfl) ?_
  refine W.objInit (a := h0) hx hb hown (hts _ q1577) (hts _ q206) (hts _ q207) rfl (by rw [hk.1.2.2.1]; exact hl.1) rfl dX13_init_6 (Nat.le_add_left 1 d) (Nat.le_trans (Nat.le_of_ble_eq_true rfl : _ ≤ 64) (by show 64 ≤ 64 * (d + 1); omega)) ?_
  refine W.eq (g2 := F0 m 9 ls []) rfl ?_
  exact zr_vret hk hr hH hz hS hw (Nat.le_of_ble_eq_true rfl) (Nat.le_of_ble_eq_true rfl) dX13_init_9
theorem ff_X14_1 {ci : Nat} (h : ci ∈ [14]) : zFf "WhatIfSheet$Pick" 1 ci 4 (.object "WhatIfSheet") := by
  simp only [List.mem_cons, List.not_mem_nil, or_false] at h
  rcases h with rfl
  · exact ⟨RX14, TX14, 5, rfl, by decide, q1581, rfl, rfl, by decide +kernel⟩
theorem ff_X14_13 {ci : Nat} (h : ci ∈ [14]) : zFf "WhatIfSheet$Pick" 13 ci 1 (.object "WhatIfSheet$Node") := by
  simp only [List.mem_cons, List.not_mem_nil, or_false] at h
  rcases h with rfl
  · exact ⟨RX14, TX14, 5, rfl, by decide, q1578, rfl, rfl, by decide +kernel⟩
theorem ff_X14_17 {ci : Nat} (h : ci ∈ [14]) : zFf "WhatIfSheet$Pick" 17 ci 2 (.object "WhatIfSheet$Node") := by
  simp only [List.mem_cons, List.not_mem_nil, or_false] at h
  rcases h with rfl
  · exact ⟨RX14, TX14, 5, rfl, by decide, q1579, rfl, rfl, by decide +kernel⟩
theorem ff_X14_20 {ci : Nat} (h : ci ∈ [14]) : zFf "WhatIfSheet$Pick" 20 ci 3 (.object "WhatIfSheet$Node") := by
  simp only [List.mem_cons, List.not_mem_nil, or_false] at h
  rcases h with rfl
  · exact ⟨RX14, TX14, 5, rfl, by decide, q1580, rfl, rfl, by decide +kernel⟩
def wp_X14_init (l : Launch) (g : zG) (d : Nat) (h0 : Nat) (r1 : Option Nat) (r2 : Option Nat) (r3 : Option Nat) (r4 : Option Nat) (hp : zHp) (nx : Nat) (Post : zHp → Nat → Prop) : Prop :=
  (zpt g hp (some h0) [14] 4 (va_rf r1) fun hp_4 =>
  (zMt l g yX13_init cX13_init 2 none d 0 0 (.ref h0 :: [va_rf r1]) hp_4 nx (zQv g fun hp_5 nx_6 =>
  (zpt g hp_5 (some h0) [14] 1 (va_rf r2) fun hp_10 =>
  (zpt g hp_10 (some h0) [14] 2 (va_rf r3) fun hp_14 =>
  (zpt g hp_14 (some h0) [14] 3 (va_rf r4) fun hp_18 =>
  (Post hp_18 nx_6)))))))
set_option maxHeartbeats 40000000 in
theorem met_X14_init {l : Launch} {g : zG} {d : Nat} {h0 : Nat} {r1 : Option Nat} {r2 : Option Nat} {r3 : Option Nat} {r4 : Option Nat} {hp : zHp} {nx : Nat} {Post : zHp → Nat → Prop} (hw : wp_X14_init l g d h0 r1 r2 r3 r4 hp nx Post) : zMt l g yX14_init cX14_init 5 none (d + 1) 0 0 [.ref h0, va_rf r1, va_rf r2, va_rf r3, va_rf r4] hp nx (zQv g Post) := by
  refine z_start (by decide) (by cases r1 <;> cases r2 <;> cases r3 <;> cases r4 <;> exact Nat.le_of_ble_eq_true rfl) ?_
  intro p e s m below meth c hk hr hin hH hz ls hl
  have hx := hk.1.1
  have hb := hk.1.2.1
  have hown := hk.1.2.2.2.1
  have hts := hk.1.2.2.2.2
  have hS : va_S (zAd g) s.heap s.heap [] := va_S.rf
  have hl : lv_has ls 5 [(0, va_rf (some h0)), (1, va_rf r1), (2, va_rf r2), (3, va_rf r3), (4, va_rf r4)] := by cases r1 <;> cases r2 <;> cases r3 <;> cases r4 <;> exact hl
  unfold wp_X14_init at hw
  refine zr_aload_n (r := some h0) hx hb dX14_init_0 rfl (lv_at hl 0 rfl) ?_
  refine zr_aload_n (r := r1) hx hb dX14_init_1 rfl (lv_at hl 1 rfl) ?_
  obtain ⟨a_1, ci_2, fs_3, hp_4, er, he, hc, hA, hkl, eh, hw⟩ := zpt_e hw
  refine zw_putF hk hin hH hz hS er he hA hkl eh (ff_X14_1 hc) (z_narR _ _) (z_fitR _ _) dX14_init_2 (fun H locs hH hz hS => ?_)
  refine zr_aload_n (r := some h0) hx hb dX14_init_5 rfl (lv_at hl 0 rfl) ?_
  refine zr_aload_n (r := r1) hx hb dX14_init_6 rfl (lv_at hl 1 rfl) ?_
  refine zr_callv (zw_runIN (As := [va_rf r1]) (r := some h0) hk hH hz hS hl.1 rfl hw ⟨va_cnB 1 hts (lw_meth q1576) rfl rfl rfl (hk.2.2.1.1 _ q1574 rfl) (hts _ q176) (by decide +kernel) (z_room (Nat.le_of_ble_eq_true rfl)), rfl, hts _ q1575⟩ rfl rfl (Nat.le_of_ble_eq_true rfl) dX14_init_7 ⟨Nat.le_of_ble_eq_true rfl, Nat.le_of_ble_eq_true rfl⟩) hS (fun hp_5 nx_6 hw H locs hH hz hS => ?_)
  refine zr_aload_n (r := some h0) hx hb dX14_init_10 rfl (lv_at hl 0 rfl) ?_
  refine zr_aload_n (r := r2) hx hb dX14_init_11 rfl (lv_at hl 2 rfl) ?_
  obtain ⟨a_7, ci_8, fs_9, hp_10, er, he, hc, hA, hkl, eh, hw⟩ := zpt_e hw
  refine zw_putF hk hin hH hz hS er he hA hkl eh (ff_X14_13 hc) (z_narR _ _) (z_fitR _ _) dX14_init_12 (fun H locs hH hz hS => ?_)
  refine zr_aload_n (r := some h0) hx hb dX14_init_15 rfl (lv_at hl 0 rfl) ?_
  refine zr_aload_n (r := r3) hx hb dX14_init_16 rfl (lv_at hl 3 rfl) ?_
  obtain ⟨a_11, ci_12, fs_13, hp_14, er, he, hc, hA, hkl, eh, hw⟩ := zpt_e hw
  refine zw_putF hk hin hH hz hS er he hA hkl eh (ff_X14_17 hc) (z_narR _ _) (z_fitR _ _) dX14_init_17 (fun H locs hH hz hS => ?_)
  refine zr_aload_n (r := some h0) hx hb dX14_init_20 rfl (lv_at hl 0 rfl) ?_
  refine zr_aload (r := r4) hx hb dX14_init_21 (lv_at hl 4 rfl) ?_
  obtain ⟨a_15, ci_16, fs_17, hp_18, er, he, hc, hA, hkl, eh, hw⟩ := zpt_e hw
  refine zw_putF hk hin hH hz hS er he hA hkl eh (ff_X14_20 hc) (z_narR _ _) (z_fitR _ _) dX14_init_23 (fun H locs hH hz hS => ?_)
  exact zr_vret hk hr hH hz hS hw (Nat.le_of_ble_eq_true rfl) (Nat.le_of_ble_eq_true rfl) dX14_init_26
theorem fk_X14_13 {ci : Nat} (h : ci ∈ [14]) : zFk "WhatIfSheet$Pick" 13 ci 1 := by
  simp only [List.mem_cons, List.not_mem_nil, or_false] at h
  rcases h with rfl
  · exact ⟨RX14, TX14, 5, rfl, by decide, q1578⟩
theorem fk_X14_1 {ci : Nat} (h : ci ∈ [14]) : zFk "WhatIfSheet$Pick" 1 ci 4 := by
  simp only [List.mem_cons, List.not_mem_nil, or_false] at h
  rcases h with rfl
  · exact ⟨RX14, TX14, 5, rfl, by decide, q1581⟩
theorem fn_X14_27 {ci : Nat} (h : ci ∈ [0]) : zFkN "WhatIfSheet$Pick" 27 ci 2 := by
  simp only [List.mem_cons, List.not_mem_nil, or_false] at h
  rcases h with rfl
  · exact ⟨RX0, TX0, 30, "WhatIfSheet", rfl, by decide, q1206⟩
theorem fn_X14_33 {ci : Nat} (h : ci ∈ [0]) : zFkN "WhatIfSheet$Pick" 33 ci 3 := by
  simp only [List.mem_cons, List.not_mem_nil, or_false] at h
  rcases h with rfl
  · exact ⟨RX0, TX0, 30, "WhatIfSheet", rfl, by decide, q1209⟩
theorem fk_X14_17 {ci : Nat} (h : ci ∈ [14]) : zFk "WhatIfSheet$Pick" 17 ci 2 := by
  simp only [List.mem_cons, List.not_mem_nil, or_false] at h
  rcases h with rfl
  · exact ⟨RX14, TX14, 5, rfl, by decide, q1579⟩
theorem fq_X14_27 {ci : Nat} (h : ci ∈ [0]) : zFpN "WhatIfSheet$Pick" 27 ci 2 .int := by
  simp only [List.mem_cons, List.not_mem_nil, or_false] at h
  rcases h with rfl
  · exact ⟨RX0, TX0, 30, "WhatIfSheet", rfl, by decide, q1206, rfl, by decide +kernel⟩
theorem fq_X14_33 {ci : Nat} (h : ci ∈ [0]) : zFpN "WhatIfSheet$Pick" 33 ci 3 .int := by
  simp only [List.mem_cons, List.not_mem_nil, or_false] at h
  rcases h with rfl
  · exact ⟨RX0, TX0, 30, "WhatIfSheet", rfl, by decide, q1209, rfl, by decide +kernel⟩
theorem fk_X14_20 {ci : Nat} (h : ci ∈ [14]) : zFk "WhatIfSheet$Pick" 20 ci 3 := by
  simp only [List.mem_cons, List.not_mem_nil, or_false] at h
  rcases h with rfl
  · exact ⟨RX14, TX14, 5, rfl, by decide, q1580⟩
def wp_X14_worth (l : Launch) (g : zG) (d : Nat) (h0 : Nat) (hp : zHp) (nx : Nat) (Post : UInt64 → zHp → Nat → Prop) : Prop :=
  (zgR hp (some h0) [14] 1 fun r_4 =>
  (zo hp r_4 [14, 16, 17, 18, 19, 20, 21, 22, 23, 24, 25, 26, 27, 29] fun a_125 ci_126 fs_127 => ∃ PP_128 : UInt64 → zHp → Nat → Prop, (∀ (x_7 : UInt64) (hp_5 : zHp) (nx_6 : Nat), PP_128 x_7 hp_5 nx_6 →
  (zgR hp_5 (some h0) [14] 4 fun r_11 =>
  (zgI hp_5 r_11 [0] 2 fun x_15 =>
  (zgR hp_5 (some h0) [14] 4 fun r_19 =>
  (zgI hp_5 r_19 [0] 3 fun x_23 =>
  (zgR hp_5 (some h0) [14] 2 fun r_27 =>
  (zo hp_5 r_27 [14, 16, 17, 18, 19, 20, 21, 22, 23, 24, 25, 26, 27, 29] fun a_121 ci_122 fs_123 => ∃ PP_124 : UInt64 → zHp → Nat → Prop, (∀ (x_30 : UInt64) (hp_28 : zHp) (nx_29 : Nat), PP_124 x_30 hp_28 nx_29 →
  (zgR hp_28 (some h0) [14] 4 fun r_34 =>
  (zgI hp_28 r_34 [0] 2 fun x_38 =>
  (zgR hp_28 (some h0) [14] 4 fun r_42 =>
  (zgI hp_28 r_42 [0] 3 fun x_46 =>
  (zgR hp_28 (some h0) [14] 4 fun r_50 =>
  (zpt g hp_28 r_50 [0] 2 (.int x_15) fun hp_54 =>
  (zgR hp_54 (some h0) [14] 4 fun r_58 =>
  (zpt g hp_54 r_58 [0] 3 (.int x_23) fun hp_62 =>
  (zgR hp_62 (some h0) [14] 3 fun r_66 =>
  (zo hp_62 r_66 [14, 16, 17, 18, 19, 20, 21, 22, 23, 24, 25, 26, 27, 29] fun a_117 ci_118 fs_119 => ∃ PP_120 : UInt64 → zHp → Nat → Prop, (∀ (x_69 : UInt64) (hp_67 : zHp) (nx_68 : Nat), PP_120 x_69 hp_67 nx_68 →
  (∃ P_88 : UInt64 → Int32 → Int32 → UInt64 → Int32 → Int32 → UInt64 → zHp → Nat → Prop, (∀ (x_70 : UInt64) (x_71 : Int32) (x_72 : Int32) (x_73 : UInt64) (x_74 : Int32) (x_75 : Int32) (x_76 : UInt64) (hp_77 : zHp) (nx_78 : Nat), P_88 x_70 x_71 x_72 x_73 x_74 x_75 x_76 hp_77 nx_78 →
  (zgR hp_77 (some h0) [14] 4 fun r_82 =>
  (∃ P_102 : UInt64 → Int32 → Int32 → UInt64 → Int32 → Int32 → UInt64 → (Option Nat) → Int32 → zHp → Nat → Prop, (∀ (x_83 : UInt64) (x_84 : Int32) (x_85 : Int32) (x_86 : UInt64) (x_87 : Int32) (x_88 : Int32) (x_89 : UInt64) (r_90 : Option Nat) (x_91 : Int32) (hp_92 : zHp) (nx_93 : Nat), P_102 x_83 x_84 x_85 x_86 x_87 x_88 x_89 r_90 x_91 hp_92 nx_93 →
  (zpt g hp_92 r_90 [0] 2 (.int x_91) fun hp_97 =>
  (zgR hp_97 (some h0) [14] 4 fun r_101 =>
  (∃ P_120 : UInt64 → Int32 → Int32 → UInt64 → Int32 → Int32 → UInt64 → (Option Nat) → Int32 → zHp → Nat → Prop, (∀ (x_102 : UInt64) (x_103 : Int32) (x_104 : Int32) (x_105 : UInt64) (x_106 : Int32) (x_107 : Int32) (x_108 : UInt64) (r_109 : Option Nat) (x_110 : Int32) (hp_111 : zHp) (nx_112 : Nat), P_120 x_102 x_103 x_104 x_105 x_106 x_107 x_108 r_109 x_110 hp_111 nx_112 →
  (zpt g hp_111 r_109 [0] 3 (.int x_110) fun hp_116 =>
  (Post x_105 hp_116 nx_112))) ∧
  ((x_84 = 0 →
  P_120 x_83 x_84 x_85 x_86 x_87 x_88 x_89 r_101 x_88 hp_97 nx_93) ∧
  (¬ x_84 = 0 →
  P_120 x_83 x_84 x_85 x_86 x_87 x_88 x_89 r_101 x_85 hp_97 nx_93)))))) ∧
  ((x_71 = 0 →
  P_102 x_70 x_71 x_72 x_73 x_74 x_75 x_76 r_82 x_74 hp_77 nx_78) ∧
  (¬ x_71 = 0 →
  P_102 x_70 x_71 x_72 x_73 x_74 x_75 x_76 r_82 x_71 hp_77 nx_78))))) ∧
  ((x_15 = 0 →
  (((Op.cmpValue (FP.dcmp x_7 FP.dconst0) .l) = 0 →
  (Post x_69 hp_67 nx_68)) ∧
  (¬ (Op.cmpValue (FP.dcmp x_7 FP.dconst0) .l) = 0 →
  P_88 x_7 x_15 x_23 x_30 x_38 x_46 x_69 hp_67 nx_68))) ∧
  (¬ x_15 = 0 →
  P_88 x_7 x_15 x_23 x_30 x_38 x_46 x_69 hp_67 nx_68)))) ∧ ((ci_118 = 14 → zMt l g yX14_worth cX14_worth 11 (some .double) d 0 0 (.ref a_117 :: []) hp_62 nx_29 (zQd g PP_120)) ∧ (ci_118 = 16 → zMt l g yX15_worth cX15_worth 5 (some .double) d 0 0 (.ref a_117 :: []) hp_62 nx_29 (zQd g PP_120)) ∧ (ci_118 = 17 → zMt l g yX15_worth cX15_worth 5 (some .double) d 0 0 (.ref a_117 :: []) hp_62 nx_29 (zQd g PP_120)) ∧ (ci_118 = 18 → zMt l g yX18_worth cX18_worth 2 (some .double) d 0 0 (.ref a_117 :: []) hp_62 nx_29 (zQd g PP_120)) ∧ (ci_118 = 19 → zMt l g yX18_worth cX18_worth 2 (some .double) d 0 0 (.ref a_117 :: []) hp_62 nx_29 (zQd g PP_120)) ∧ (ci_118 = 20 → zMt l g yX18_worth cX18_worth 2 (some .double) d 0 0 (.ref a_117 :: []) hp_62 nx_29 (zQd g PP_120)) ∧ (ci_118 = 21 → zMt l g yX18_worth cX18_worth 2 (some .double) d 0 0 (.ref a_117 :: []) hp_62 nx_29 (zQd g PP_120)) ∧ (ci_118 = 22 → zMt l g yX18_worth cX18_worth 2 (some .double) d 0 0 (.ref a_117 :: []) hp_62 nx_29 (zQd g PP_120)) ∧ (ci_118 = 23 → zMt l g yX23_worth cX23_worth 1 (some .double) d 0 0 (.ref a_117 :: []) hp_62 nx_29 (zQd g PP_120)) ∧ (ci_118 = 24 → zMt l g yX24_worth cX24_worth 1 (some .double) d 0 0 (.ref a_117 :: []) hp_62 nx_29 (zQd g PP_120)) ∧ (ci_118 = 25 → zMt l g yX25_worth cX25_worth 1 (some .double) d 0 0 (.ref a_117 :: []) hp_62 nx_29 (zQd g PP_120)) ∧ (ci_118 = 26 → zMt l g yX26_worth cX26_worth 4 (some .double) d 0 0 (.ref a_117 :: []) hp_62 nx_29 (zQd g PP_120)) ∧ (ci_118 = 27 → zMt l g yX26_worth cX26_worth 4 (some .double) d 0 0 (.ref a_117 :: []) hp_62 nx_29 (zQd g PP_120)) ∧ (ci_118 = 29 → zMt l g yX15_worth cX15_worth 5 (some .double) d 0 0 (.ref a_117 :: []) hp_62 nx_29 (zQd g PP_120)))))))))))))) ∧ ((ci_122 = 14 → zMt l g yX14_worth cX14_worth 11 (some .double) d 0 0 (.ref a_121 :: []) hp_5 nx_6 (zQd g PP_124)) ∧ (ci_122 = 16 → zMt l g yX15_worth cX15_worth 5 (some .double) d 0 0 (.ref a_121 :: []) hp_5 nx_6 (zQd g PP_124)) ∧ (ci_122 = 17 → zMt l g yX15_worth cX15_worth 5 (some .double) d 0 0 (.ref a_121 :: []) hp_5 nx_6 (zQd g PP_124)) ∧ (ci_122 = 18 → zMt l g yX18_worth cX18_worth 2 (some .double) d 0 0 (.ref a_121 :: []) hp_5 nx_6 (zQd g PP_124)) ∧ (ci_122 = 19 → zMt l g yX18_worth cX18_worth 2 (some .double) d 0 0 (.ref a_121 :: []) hp_5 nx_6 (zQd g PP_124)) ∧ (ci_122 = 20 → zMt l g yX18_worth cX18_worth 2 (some .double) d 0 0 (.ref a_121 :: []) hp_5 nx_6 (zQd g PP_124)) ∧ (ci_122 = 21 → zMt l g yX18_worth cX18_worth 2 (some .double) d 0 0 (.ref a_121 :: []) hp_5 nx_6 (zQd g PP_124)) ∧ (ci_122 = 22 → zMt l g yX18_worth cX18_worth 2 (some .double) d 0 0 (.ref a_121 :: []) hp_5 nx_6 (zQd g PP_124)) ∧ (ci_122 = 23 → zMt l g yX23_worth cX23_worth 1 (some .double) d 0 0 (.ref a_121 :: []) hp_5 nx_6 (zQd g PP_124)) ∧ (ci_122 = 24 → zMt l g yX24_worth cX24_worth 1 (some .double) d 0 0 (.ref a_121 :: []) hp_5 nx_6 (zQd g PP_124)) ∧ (ci_122 = 25 → zMt l g yX25_worth cX25_worth 1 (some .double) d 0 0 (.ref a_121 :: []) hp_5 nx_6 (zQd g PP_124)) ∧ (ci_122 = 26 → zMt l g yX26_worth cX26_worth 4 (some .double) d 0 0 (.ref a_121 :: []) hp_5 nx_6 (zQd g PP_124)) ∧ (ci_122 = 27 → zMt l g yX26_worth cX26_worth 4 (some .double) d 0 0 (.ref a_121 :: []) hp_5 nx_6 (zQd g PP_124)) ∧ (ci_122 = 29 → zMt l g yX15_worth cX15_worth 5 (some .double) d 0 0 (.ref a_121 :: []) hp_5 nx_6 (zQd g PP_124)))))))))) ∧ ((ci_126 = 14 → zMt l g yX14_worth cX14_worth 11 (some .double) d 0 0 (.ref a_125 :: []) hp nx (zQd g PP_128)) ∧ (ci_126 = 16 → zMt l g yX15_worth cX15_worth 5 (some .double) d 0 0 (.ref a_125 :: []) hp nx (zQd g PP_128)) ∧ (ci_126 = 17 → zMt l g yX15_worth cX15_worth 5 (some .double) d 0 0 (.ref a_125 :: []) hp nx (zQd g PP_128)) ∧ (ci_126 = 18 → zMt l g yX18_worth cX18_worth 2 (some .double) d 0 0 (.ref a_125 :: []) hp nx (zQd g PP_128)) ∧ (ci_126 = 19 → zMt l g yX18_worth cX18_worth 2 (some .double) d 0 0 (.ref a_125 :: []) hp nx (zQd g PP_128)) ∧ (ci_126 = 20 → zMt l g yX18_worth cX18_worth 2 (some .double) d 0 0 (.ref a_125 :: []) hp nx (zQd g PP_128)) ∧ (ci_126 = 21 → zMt l g yX18_worth cX18_worth 2 (some .double) d 0 0 (.ref a_125 :: []) hp nx (zQd g PP_128)) ∧ (ci_126 = 22 → zMt l g yX18_worth cX18_worth 2 (some .double) d 0 0 (.ref a_125 :: []) hp nx (zQd g PP_128)) ∧ (ci_126 = 23 → zMt l g yX23_worth cX23_worth 1 (some .double) d 0 0 (.ref a_125 :: []) hp nx (zQd g PP_128)) ∧ (ci_126 = 24 → zMt l g yX24_worth cX24_worth 1 (some .double) d 0 0 (.ref a_125 :: []) hp nx (zQd g PP_128)) ∧ (ci_126 = 25 → zMt l g yX25_worth cX25_worth 1 (some .double) d 0 0 (.ref a_125 :: []) hp nx (zQd g PP_128)) ∧ (ci_126 = 26 → zMt l g yX26_worth cX26_worth 4 (some .double) d 0 0 (.ref a_125 :: []) hp nx (zQd g PP_128)) ∧ (ci_126 = 27 → zMt l g yX26_worth cX26_worth 4 (some .double) d 0 0 (.ref a_125 :: []) hp nx (zQd g PP_128)) ∧ (ci_126 = 29 → zMt l g yX15_worth cX15_worth 5 (some .double) d 0 0 (.ref a_125 :: []) hp nx (zQd g PP_128)))))
set_option maxHeartbeats 40000000 in
theorem met_X14_worth {l : Launch} {g : zG} {d : Nat} {h0 : Nat} {hp : zHp} {nx : Nat} {Post : UInt64 → zHp → Nat → Prop} (hw : wp_X14_worth l g d h0 hp nx Post) : zMt l g yX14_worth cX14_worth 11 (some .double) (d + 1) 0 0 [.ref h0] hp nx (zQd g Post) := by
  refine z_start (by decide) (Nat.le_of_ble_eq_true rfl) ?_
  intro p e s m below meth c hk hr hin hH hz ls hl
  have hx := hk.1.1
  have hb := hk.1.2.1
  have hown := hk.1.2.2.2.1
  have hts := hk.1.2.2.2.2
  have hS : va_S (zAd g) s.heap s.heap [] := va_S.rf
  have hl : lv_has ls 11 [(0, va_rf (some h0))] := hl
  unfold wp_X14_worth at hw
  refine zr_aload_n (r := some h0) hx hb dX14_worth_0 rfl (lv_at hl 0 rfl) ?_
  obtain ⟨a_1, ci_2, fs_3, r_4, er, he, hc, hv, hw⟩ := zgR_e hw
  refine zw_get hk hH er he hv (fk_X14_13 hc) dX14_worth_1 ?_
  obtain ⟨a_125, ci_126, fs_127, er, he, hc, PP_128, hPP, hw⟩ := zo_e hw
  have hC : ∀ (x_7 : UInt64) (hp_5 : zHp) (nx_6 : Nat), PP_128 x_7 hp_5 nx_6 → ∀ (H : Heap) (locs : List Loc), zHd g hp_5 H → H.size = nx_6 → va_S (zAd g) s.heap H locs → W p l e (zrm (d + 1) 0 0) s m ([.ref h0] : List Value).toArray below meth c H locs (0 + 0) (0 + 0) (MQ below (zQd g Post) ([.ref h0] : List Value).toArray s 0 0 (zAd g)) (F0 m 7 ls [.double x_7]) := by
    intro x_7 hp_5 nx_6 hw H locs hH hz hS
    have hw := hPP x_7 hp_5 nx_6 hw
    refine lv_dstore_n (i := 1) (lv' := [(1, .double x_7), (0, va_rf (some h0))]) hx hb dX14_worth_7 rfl hl (by decide) (by first | rfl | simp [List.filter_cons, z_cat, z_catI, z_catJ, z_catF, z_catD]) (fun ls hl => ?_)
    refine zr_aload_n (r := some h0) hx hb dX14_worth_8 rfl (lv_at hl 1 rfl) ?_
    obtain ⟨a_8, ci_9, fs_10, r_11, er, he, hc, hv, hw⟩ := zgR_e hw
    refine zw_get hk hH er he hv (fk_X14_1 hc) dX14_worth_9 ?_
    obtain ⟨a_12, ci_13, fs_14, x_15, er, he, hc, hv, hw⟩ := zgI_e hw
    refine zw_getN hk hH er he hv (fn_X14_27 hc) dX14_worth_12 ?_
    refine lv_istore_n (i := 3) (lv' := [(3, .int x_15), (1, .double x_7), (0, va_rf (some h0))]) hx hb dX14_worth_15 rfl hl (by decide) (by first | rfl | simp [List.filter_cons, z_cat, z_catI, z_catJ, z_catF, z_catD]) (fun ls hl => ?_)
    refine zr_aload_n (r := some h0) hx hb dX14_worth_16 rfl (lv_at hl 2 rfl) ?_
    obtain ⟨a_16, ci_17, fs_18, r_19, er, he, hc, hv, hw⟩ := zgR_e hw
    refine zw_get hk hH er he hv (fk_X14_1 hc) dX14_worth_17 ?_
    obtain ⟨a_20, ci_21, fs_22, x_23, er, he, hc, hv, hw⟩ := zgI_e hw
    refine zw_getN hk hH er he hv (fn_X14_33 hc) dX14_worth_20 ?_
    refine lv_istore (lv' := [(4, .int x_23), (3, .int x_15), (1, .double x_7), (0, va_rf (some h0))]) hx hb dX14_worth_23 hl (by decide) (by first | rfl | simp [List.filter_cons, z_cat, z_catI, z_catJ, z_catF, z_catD]) (fun ls hl => ?_)
    refine zr_aload_n (r := some h0) hx hb dX14_worth_25 rfl (lv_at hl 3 rfl) ?_
    obtain ⟨a_24, ci_25, fs_26, r_27, er, he, hc, hv, hw⟩ := zgR_e hw
    refine zw_get hk hH er he hv (fk_X14_17 hc) dX14_worth_26 ?_
    obtain ⟨a_121, ci_122, fs_123, er, he, hc, PP_124, hPP, hw⟩ := zo_e hw
    have hC : ∀ (x_30 : UInt64) (hp_28 : zHp) (nx_29 : Nat), PP_124 x_30 hp_28 nx_29 → ∀ (H : Heap) (locs : List Loc), zHd g hp_28 H → H.size = nx_29 → va_S (zAd g) s.heap H locs → W p l e (zrm (d + 1) 0 0) s m ([.ref h0] : List Value).toArray below meth c H locs (0 + 0) (0 + 0) (MQ below (zQd g Post) ([.ref h0] : List Value).toArray s 0 0 (zAd g)) (F0 m 32 ls [.double x_30]) := by
      intro x_30 hp_28 nx_29 hw H locs hH hz hS
      have hw := hPP x_30 hp_28 nx_29 hw
      refine lv_dstore (lv' := [(5, .double x_30), (4, .int x_23), (3, .int x_15), (1, .double x_7), (0, va_rf (some h0))]) hx hb dX14_worth_32 hl (by decide) (by first | rfl | simp [List.filter_cons, z_cat, z_catI, z_catJ, z_catF, z_catD]) (fun ls hl => ?_)
      refine zr_aload_n (r := some h0) hx hb dX14_worth_34 rfl (lv_at hl 4 rfl) ?_
      obtain ⟨a_31, ci_32, fs_33, r_34, er, he, hc, hv, hw⟩ := zgR_e hw
      refine zw_get hk hH er he hv (fk_X14_1 hc) dX14_worth_35 ?_
      obtain ⟨a_35, ci_36, fs_37, x_38, er, he, hc, hv, hw⟩ := zgI_e hw
      refine zw_getN hk hH er he hv (fn_X14_27 hc) dX14_worth_38 ?_
      refine lv_istore (lv' := [(7, .int x_38), (5, .double x_30), (4, .int x_23), (3, .int x_15), (1, .double x_7), (0, va_rf (some h0))]) hx hb dX14_worth_41 hl (by decide) (by first | rfl | simp [List.filter_cons, z_cat, z_catI, z_catJ, z_catF, z_catD]) (fun ls hl => ?_)
      refine zr_aload_n (r := some h0) hx hb dX14_worth_43 rfl (lv_at hl 5 rfl) ?_
      obtain ⟨a_39, ci_40, fs_41, r_42, er, he, hc, hv, hw⟩ := zgR_e hw
      refine zw_get hk hH er he hv (fk_X14_1 hc) dX14_worth_44 ?_
      obtain ⟨a_43, ci_44, fs_45, x_46, er, he, hc, hv, hw⟩ := zgI_e hw
      refine zw_getN hk hH er he hv (fn_X14_33 hc) dX14_worth_47 ?_
      refine lv_istore (lv' := [(8, .int x_46), (7, .int x_38), (5, .double x_30), (4, .int x_23), (3, .int x_15), (1, .double x_7), (0, va_rf (some h0))]) hx hb dX14_worth_50 hl (by decide) (by first | rfl | simp [List.filter_cons, z_cat, z_catI, z_catJ, z_catF, z_catD]) (fun ls hl => ?_)
      refine zr_aload_n (r := some h0) hx hb dX14_worth_52 rfl (lv_at hl 6 rfl) ?_
      obtain ⟨a_47, ci_48, fs_49, r_50, er, he, hc, hv, hw⟩ := zgR_e hw
      refine zw_get hk hH er he hv (fk_X14_1 hc) dX14_worth_53 ?_
      refine lv_iload_n hx hb dX14_worth_56 rfl (lv_at hl 4 rfl) ?_
      obtain ⟨a_51, ci_52, fs_53, hp_54, er, he, hc, hA, hkl, eh, hw⟩ := zpt_e hw
      refine zw_putN hk hH hz hS er he hA hkl eh (fq_X14_27 hc) rfl rfl dX14_worth_57 (fun H locs hH hz hS => ?_)
      refine zr_aload_n (r := some h0) hx hb dX14_worth_60 rfl (lv_at hl 6 rfl) ?_
      obtain ⟨a_55, ci_56, fs_57, r_58, er, he, hc, hv, hw⟩ := zgR_e hw
      refine zw_get hk hH er he hv (fk_X14_1 hc) dX14_worth_61 ?_
      refine lv_iload hx hb dX14_worth_64 (lv_at hl 3 rfl) ?_
      obtain ⟨a_59, ci_60, fs_61, hp_62, er, he, hc, hA, hkl, eh, hw⟩ := zpt_e hw
      refine zw_putN hk hH hz hS er he hA hkl eh (fq_X14_33 hc) rfl rfl dX14_worth_66 (fun H locs hH hz hS => ?_)
      refine zr_aload_n (r := some h0) hx hb dX14_worth_69 rfl (lv_at hl 6 rfl) ?_
      obtain ⟨a_63, ci_64, fs_65, r_66, er, he, hc, hv, hw⟩ := zgR_e hw
      refine zw_get hk hH er he hv (fk_X14_20 hc) dX14_worth_70 ?_
      obtain ⟨a_117, ci_118, fs_119, er, he, hc, PP_120, hPP, hw⟩ := zo_e hw
      have hC : ∀ (x_69 : UInt64) (hp_67 : zHp) (nx_68 : Nat), PP_120 x_69 hp_67 nx_68 → ∀ (H : Heap) (locs : List Loc), zHd g hp_67 H → H.size = nx_68 → va_S (zAd g) s.heap H locs → W p l e (zrm (d + 1) 0 0) s m ([.ref h0] : List Value).toArray below meth c H locs (0 + 0) (0 + 0) (MQ below (zQd g Post) ([.ref h0] : List Value).toArray s 0 0 (zAd g)) (F0 m 76 ls [.double x_69]) := by
        intro x_69 hp_67 nx_68 hw H locs hH hz hS
        have hw := hPP x_69 hp_67 nx_68 hw
        refine lv_dstore (lv' := [(9, .double x_69), (8, .int x_46), (7, .int x_38), (5, .double x_30), (4, .int x_23), (3, .int x_15), (1, .double x_7), (0, va_rf (some h0))]) hx hb dX14_worth_76 hl (by decide) (by first | rfl | simp [List.filter_cons, z_cat, z_catI, z_catJ, z_catF, z_catD]) (fun ls hl => ?_)
        refine lv_iload_n hx hb dX14_worth_78 rfl (lv_at hl 5 rfl) ?_
        obtain ⟨P_88, hP_88, hw⟩ := hw
        have hJ_88 : ∀ (x_70 : UInt64) (x_71 : Int32) (x_72 : Int32) (x_73 : UInt64) (x_74 : Int32) (x_75 : Int32) (x_76 : UInt64) (hp_77 : zHp) (nx_78 : Nat) (H : Heap) (locs : List Loc) (ls : Array Slot), P_88 x_70 x_71 x_72 x_73 x_74 x_75 x_76 hp_77 nx_78 → lv_has ls 11 [(0, va_rf (some h0)), (1, .double x_70), (3, .int x_71), (4, .int x_72), (5, .double x_73), (7, .int x_74), (8, .int x_75), (9, .double x_76)] → zHd g hp_77 H → H.size = nx_78 → va_S (zAd g) s.heap H locs → W p l e (zrm (d + 1) 0 0) s m ([.ref h0] : List Value).toArray below meth c H locs 0 0 (MQ below (zQd g Post) ([.ref h0] : List Value).toArray s 0 0 (zAd g)) (F0 m 88 ls []) := by
          intro x_70 x_71 x_72 x_73 x_74 x_75 x_76 hp_77 nx_78 H locs ls hw hl hH hz hS
          have hw := hP_88 x_70 x_71 x_72 x_73 x_74 x_75 x_76 hp_77 nx_78 hw
          refine zr_aload_n (r := some h0) hx hb dX14_worth_88 rfl (lv_at hl 0 rfl) ?_
          obtain ⟨a_79, ci_80, fs_81, r_82, er, he, hc, hv, hw⟩ := zgR_e hw
          refine zw_get hk hH er he hv (fk_X14_1 hc) dX14_worth_89 ?_
          refine lv_iload_n hx hb dX14_worth_92 rfl (lv_at hl 2 rfl) ?_
          obtain ⟨P_102, hP_102, hw⟩ := hw
          have hJ_102 : ∀ (x_83 : UInt64) (x_84 : Int32) (x_85 : Int32) (x_86 : UInt64) (x_87 : Int32) (x_88 : Int32) (x_89 : UInt64) (r_90 : Option Nat) (x_91 : Int32) (hp_92 : zHp) (nx_93 : Nat) (H : Heap) (locs : List Loc) (ls : Array Slot), P_102 x_83 x_84 x_85 x_86 x_87 x_88 x_89 r_90 x_91 hp_92 nx_93 → lv_has ls 11 [(0, va_rf (some h0)), (1, .double x_83), (3, .int x_84), (4, .int x_85), (5, .double x_86), (7, .int x_87), (8, .int x_88), (9, .double x_89)] → zHd g hp_92 H → H.size = nx_93 → va_S (zAd g) s.heap H locs → W p l e (zrm (d + 1) 0 0) s m ([.ref h0] : List Value).toArray below meth c H locs 0 0 (MQ below (zQd g Post) ([.ref h0] : List Value).toArray s 0 0 (zAd g)) (F0 m 102 ls [.int x_91, va_rf r_90]) := by
            intro x_83 x_84 x_85 x_86 x_87 x_88 x_89 r_90 x_91 hp_92 nx_93 H locs ls hw hl hH hz hS
            have hw := hP_102 x_83 x_84 x_85 x_86 x_87 x_88 x_89 r_90 x_91 hp_92 nx_93 hw
            obtain ⟨a_94, ci_95, fs_96, hp_97, er, he, hc, hA, hkl, eh, hw⟩ := zpt_e hw
            refine zw_putN hk hH hz hS er he hA hkl eh (fq_X14_27 hc) rfl rfl dX14_worth_102 (fun H locs hH hz hS => ?_)
            refine zr_aload_n (r := some h0) hx hb dX14_worth_105 rfl (lv_at hl 0 rfl) ?_
            obtain ⟨a_98, ci_99, fs_100, r_101, er, he, hc, hv, hw⟩ := zgR_e hw
            refine zw_get hk hH er he hv (fk_X14_1 hc) dX14_worth_106 ?_
            refine lv_iload_n hx hb dX14_worth_109 rfl (lv_at hl 2 rfl) ?_
            obtain ⟨P_120, hP_120, hw⟩ := hw
            have hJ_120 : ∀ (x_102 : UInt64) (x_103 : Int32) (x_104 : Int32) (x_105 : UInt64) (x_106 : Int32) (x_107 : Int32) (x_108 : UInt64) (r_109 : Option Nat) (x_110 : Int32) (hp_111 : zHp) (nx_112 : Nat) (H : Heap) (locs : List Loc) (ls : Array Slot), P_120 x_102 x_103 x_104 x_105 x_106 x_107 x_108 r_109 x_110 hp_111 nx_112 → lv_has ls 11 [(0, va_rf (some h0)), (1, .double x_102), (3, .int x_103), (4, .int x_104), (5, .double x_105), (7, .int x_106), (8, .int x_107), (9, .double x_108)] → zHd g hp_111 H → H.size = nx_112 → va_S (zAd g) s.heap H locs → W p l e (zrm (d + 1) 0 0) s m ([.ref h0] : List Value).toArray below meth c H locs 0 0 (MQ below (zQd g Post) ([.ref h0] : List Value).toArray s 0 0 (zAd g)) (F0 m 120 ls [.int x_110, va_rf r_109]) := by
              intro x_102 x_103 x_104 x_105 x_106 x_107 x_108 r_109 x_110 hp_111 nx_112 H locs ls hw hl hH hz hS
              have hw := hP_120 x_102 x_103 x_104 x_105 x_106 x_107 x_108 r_109 x_110 hp_111 nx_112 hw
              obtain ⟨a_113, ci_114, fs_115, hp_116, er, he, hc, hA, hkl, eh, hw⟩ := zpt_e hw
              refine zw_putN hk hH hz hS er he hA hkl eh (fq_X14_33 hc) rfl rfl dX14_worth_120 (fun H locs hH hz hS => ?_)
              refine lv_dload hx hb dX14_worth_123 (lv_at hl 4 rfl) ?_
              exact zr_dret hk hr hH hz hS hw (Nat.le_of_ble_eq_true rfl) (Nat.le_of_ble_eq_true rfl) dX14_worth_125
            refine lv_if_eq (tgt := 118) hx hb dX14_worth_110 (by decide) (fun hc => ?_) (fun hc => ?_)
            · have hw := hw.1 hc
              refine lv_iload hx hb dX14_worth_118 (lv_at hl 6 rfl) ?_
              exact hJ_120 x_83 x_84 x_85 x_86 x_87 x_88 x_89 r_101 x_88 hp_97 nx_93 _ _ _ hw hl hH hz hS
            · have hw := hw.2 hc
              refine lv_iload hx hb dX14_worth_113 (lv_at hl 3 rfl) ?_
              refine lv_goto (tgt := 120) hx hb dX14_worth_115 (by decide) ?_
              exact hJ_120 x_83 x_84 x_85 x_86 x_87 x_88 x_89 r_101 x_85 hp_97 nx_93 _ _ _ hw hl hH hz hS
          refine lv_if_eq (tgt := 100) hx hb dX14_worth_93 (by decide) (fun hc => ?_) (fun hc => ?_)
          · have hw := hw.1 hc
            refine lv_iload hx hb dX14_worth_100 (lv_at hl 5 rfl) ?_
            exact hJ_102 x_70 x_71 x_72 x_73 x_74 x_75 x_76 r_82 x_74 hp_77 nx_78 _ _ _ hw hl hH hz hS
          · have hw := hw.2 hc
            refine lv_iload_n hx hb dX14_worth_96 rfl (lv_at hl 2 rfl) ?_
            refine lv_goto (tgt := 102) hx hb dX14_worth_97 (by decide) ?_
            exact hJ_102 x_70 x_71 x_72 x_73 x_74 x_75 x_76 r_82 x_71 hp_77 nx_78 _ _ _ hw hl hH hz hS
        refine lv_if_ne (tgt := 88) hx hb dX14_worth_79 (by decide) (fun hc => ?_) (fun hc => ?_)
        · have hw := hw.2 hc
          exact hJ_88 x_7 x_15 x_23 x_30 x_38 x_46 x_69 hp_67 nx_68 _ _ _ hw (lv_sub hl [7, 6, 5, 4, 3, 2, 1, 0] rfl) hH hz hS
        · have hw := hw.1 hc
          refine lv_dload_n hx hb dX14_worth_82 rfl (lv_at hl 6 rfl) ?_
          refine lv_dconst0 hx hb dX14_worth_83 ?_
          refine lv_dcmp hx hb dX14_worth_84 ?_
          refine lv_if_eq (tgt := 126) hx hb dX14_worth_85 (by decide) (fun hc => ?_) (fun hc => ?_)
          · have hw := hw.1 hc
            refine lv_dload hx hb dX14_worth_126 (lv_at hl 0 rfl) ?_
            exact zr_dret hk hr hH hz hS hw (Nat.le_of_ble_eq_true rfl) (Nat.le_of_ble_eq_true rfl) dX14_worth_128
          · have hw := hw.2 hc
            exact hJ_88 x_7 x_15 x_23 x_30 x_38 x_46 x_69 hp_67 nx_68 _ _ _ hw (lv_sub hl [7, 6, 5, 4, 3, 2, 1, 0] rfl) hH hz hS
      simp only [List.mem_cons, List.not_mem_nil, or_false] at hc
      rcases hc with rfl | rfl | rfl | rfl | rfl | rfl | rfl | rfl | rfl | rfl | rfl | rfl | rfl | rfl
      · exact zr_calld (zw_runU (As := []) hk hH hz hS hl.1 er (hw.1 rfl) (va_cwA 0 hts (z_U q2244 q2146 q2288 q2242 q177 q2243) rfl rfl rfl (hk.2.2.1.1 _ q2145 rfl) (by decide +kernel) (z_room (Nat.le_of_ble_eq_true rfl))) he rfl rfl rfl (Nat.le_of_ble_eq_true rfl) dX14_worth_73 ⟨Nat.le_of_ble_eq_true rfl, Nat.le_of_ble_eq_true rfl⟩) hS hC
      · exact zr_calld (zw_runU (As := []) hk hH hz hS hl.1 er (hw.2.1 rfl) (va_cwA 0 hts (z_U q2244 q2146 q2282 q2231 q178 q2232) rfl rfl rfl (hk.2.2.1.1 _ q2145 rfl) (by decide +kernel) (z_room (Nat.le_of_ble_eq_true rfl))) he rfl rfl rfl (Nat.le_of_ble_eq_true rfl) dX14_worth_73 ⟨Nat.le_of_ble_eq_true rfl, Nat.le_of_ble_eq_true rfl⟩) hS hC
      · exact zr_calld (zw_runU (As := []) hk hH hz hS hl.1 er (hw.2.2.1 rfl) (va_cwA 0 hts (z_U q2244 q2146 q2280 q2231 q178 q2232) rfl rfl rfl (hk.2.2.1.1 _ q2145 rfl) (by decide +kernel) (z_room (Nat.le_of_ble_eq_true rfl))) he rfl rfl rfl (Nat.le_of_ble_eq_true rfl) dX14_worth_73 ⟨Nat.le_of_ble_eq_true rfl, Nat.le_of_ble_eq_true rfl⟩) hS hC
      · exact zr_calld (zw_runU (As := []) hk hH hz hS hl.1 er (hw.2.2.2.1 rfl) (va_cwA 0 hts (z_U q2244 q2146 q2147 q2148 q182 q2149) rfl rfl rfl (hk.2.2.1.1 _ q2145 rfl) (by decide +kernel) (z_room (Nat.le_of_ble_eq_true rfl))) he rfl rfl rfl (Nat.le_of_ble_eq_true rfl) dX14_worth_73 ⟨Nat.le_of_ble_eq_true rfl, Nat.le_of_ble_eq_true rfl⟩) hS hC
      · exact zr_calld (zw_runU (As := []) hk hH hz hS hl.1 er (hw.2.2.2.2.1 rfl) (va_cwA 0 hts (z_U q2244 q2146 q2283 q2148 q182 q2149) rfl rfl rfl (hk.2.2.1.1 _ q2145 rfl) (by decide +kernel) (z_room (Nat.le_of_ble_eq_true rfl))) he rfl rfl rfl (Nat.le_of_ble_eq_true rfl) dX14_worth_73 ⟨Nat.le_of_ble_eq_true rfl, Nat.le_of_ble_eq_true rfl⟩) hS hC
      · exact zr_calld (zw_runU (As := []) hk hH hz hS hl.1 er (hw.2.2.2.2.2.1 rfl) (va_cwA 0 hts (z_U q2244 q2146 q2281 q2148 q182 q2149) rfl rfl rfl (hk.2.2.1.1 _ q2145 rfl) (by decide +kernel) (z_room (Nat.le_of_ble_eq_true rfl))) he rfl rfl rfl (Nat.le_of_ble_eq_true rfl) dX14_worth_73 ⟨Nat.le_of_ble_eq_true rfl, Nat.le_of_ble_eq_true rfl⟩) hS hC
      · exact zr_calld (zw_runU (As := []) hk hH hz hS hl.1 er (hw.2.2.2.2.2.2.1 rfl) (va_cwA 0 hts (z_U q2244 q2146 q2285 q2148 q182 q2149) rfl rfl rfl (hk.2.2.1.1 _ q2145 rfl) (by decide +kernel) (z_room (Nat.le_of_ble_eq_true rfl))) he rfl rfl rfl (Nat.le_of_ble_eq_true rfl) dX14_worth_73 ⟨Nat.le_of_ble_eq_true rfl, Nat.le_of_ble_eq_true rfl⟩) hS hC
      · exact zr_calld (zw_runU (As := []) hk hH hz hS hl.1 er (hw.2.2.2.2.2.2.2.1 rfl) (va_cwA 0 hts (z_U q2244 q2146 q2279 q2148 q182 q2149) rfl rfl rfl (hk.2.2.1.1 _ q2145 rfl) (by decide +kernel) (z_room (Nat.le_of_ble_eq_true rfl))) he rfl rfl rfl (Nat.le_of_ble_eq_true rfl) dX14_worth_73 ⟨Nat.le_of_ble_eq_true rfl, Nat.le_of_ble_eq_true rfl⟩) hS hC
      · exact zr_calld (zw_runU (As := []) hk hH hz hS hl.1 er (hw.2.2.2.2.2.2.2.2.1 rfl) (va_cwA 0 hts (z_U q2244 q2146 q2286 q2237 q187 q2238) rfl rfl rfl (hk.2.2.1.1 _ q2145 rfl) (by decide +kernel) (z_room (Nat.le_of_ble_eq_true rfl))) he rfl rfl rfl (Nat.le_of_ble_eq_true rfl) dX14_worth_73 ⟨Nat.le_of_ble_eq_true rfl, Nat.le_of_ble_eq_true rfl⟩) hS hC
      · exact zr_calld (zw_runU (As := []) hk hH hz hS hl.1 er (hw.2.2.2.2.2.2.2.2.2.1 rfl) (va_cwA 0 hts (z_U q2244 q2146 q2287 q2240 q188 q2241) rfl rfl rfl (hk.2.2.1.1 _ q2145 rfl) (by decide +kernel) (z_room (Nat.le_of_ble_eq_true rfl))) he rfl rfl rfl (Nat.le_of_ble_eq_true rfl) dX14_worth_73 ⟨Nat.le_of_ble_eq_true rfl, Nat.le_of_ble_eq_true rfl⟩) hS hC
      · exact zr_calld (zw_runU (As := []) hk hH hz hS hl.1 er (hw.2.2.2.2.2.2.2.2.2.2.1 rfl) (va_cwA 0 hts (z_U q2244 q2146 q2284 q2234 q189 q2235) rfl rfl rfl (hk.2.2.1.1 _ q2145 rfl) (by decide +kernel) (z_room (Nat.le_of_ble_eq_true rfl))) he rfl rfl rfl (Nat.le_of_ble_eq_true rfl) dX14_worth_73 ⟨Nat.le_of_ble_eq_true rfl, Nat.le_of_ble_eq_true rfl⟩) hS hC
      · exact zr_calld (zw_runU (As := []) hk hH hz hS hl.1 er (hw.2.2.2.2.2.2.2.2.2.2.2.1 rfl) (va_cwA 0 hts (z_U q2244 q2146 q2289 q2245 q190 q2246) rfl rfl rfl (hk.2.2.1.1 _ q2145 rfl) (by decide +kernel) (z_room (Nat.le_of_ble_eq_true rfl))) he rfl rfl rfl (Nat.le_of_ble_eq_true rfl) dX14_worth_73 ⟨Nat.le_of_ble_eq_true rfl, Nat.le_of_ble_eq_true rfl⟩) hS hC
      · exact zr_calld (zw_runU (As := []) hk hH hz hS hl.1 er (hw.2.2.2.2.2.2.2.2.2.2.2.2.1 rfl) (va_cwA 0 hts (z_U q2244 q2146 q2290 q2245 q190 q2246) rfl rfl rfl (hk.2.2.1.1 _ q2145 rfl) (by decide +kernel) (z_room (Nat.le_of_ble_eq_true rfl))) he rfl rfl rfl (Nat.le_of_ble_eq_true rfl) dX14_worth_73 ⟨Nat.le_of_ble_eq_true rfl, Nat.le_of_ble_eq_true rfl⟩) hS hC
      · exact zr_calld (zw_runU (As := []) hk hH hz hS hl.1 er (hw.2.2.2.2.2.2.2.2.2.2.2.2.2 rfl) (va_cwA 0 hts (z_U q2244 q2146 q2230 q2231 q178 q2232) rfl rfl rfl (hk.2.2.1.1 _ q2145 rfl) (by decide +kernel) (z_room (Nat.le_of_ble_eq_true rfl))) he rfl rfl rfl (Nat.le_of_ble_eq_true rfl) dX14_worth_73 ⟨Nat.le_of_ble_eq_true rfl, Nat.le_of_ble_eq_true rfl⟩) hS hC
    simp only [List.mem_cons, List.not_mem_nil, or_false] at hc
    rcases hc with rfl | rfl | rfl | rfl | rfl | rfl | rfl | rfl | rfl | rfl | rfl | rfl | rfl | rfl
    · exact zr_calld (zw_runU (As := []) hk hH hz hS hl.1 er (hw.1 rfl) (va_cwA 0 hts (z_U q2244 q2146 q2288 q2242 q177 q2243) rfl rfl rfl (hk.2.2.1.1 _ q2145 rfl) (by decide +kernel) (z_room (Nat.le_of_ble_eq_true rfl))) he rfl rfl rfl (Nat.le_of_ble_eq_true rfl) dX14_worth_29 ⟨Nat.le_of_ble_eq_true rfl, Nat.le_of_ble_eq_true rfl⟩) hS hC
    · exact zr_calld (zw_runU (As := []) hk hH hz hS hl.1 er (hw.2.1 rfl) (va_cwA 0 hts (z_U q2244 q2146 q2282 q2231 q178 q2232) rfl rfl rfl (hk.2.2.1.1 _ q2145 rfl) (by decide +kernel) (z_room (Nat.le_of_ble_eq_true rfl))) he rfl rfl rfl (Nat.le_of_ble_eq_true rfl) dX14_worth_29 ⟨Nat.le_of_ble_eq_true rfl, Nat.le_of_ble_eq_true rfl⟩) hS hC
    · exact zr_calld (zw_runU (As := []) hk hH hz hS hl.1 er (hw.2.2.1 rfl) (va_cwA 0 hts (z_U q2244 q2146 q2280 q2231 q178 q2232) rfl rfl rfl (hk.2.2.1.1 _ q2145 rfl) (by decide +kernel) (z_room (Nat.le_of_ble_eq_true rfl))) he rfl rfl rfl (Nat.le_of_ble_eq_true rfl) dX14_worth_29 ⟨Nat.le_of_ble_eq_true rfl, Nat.le_of_ble_eq_true rfl⟩) hS hC
    · exact zr_calld (zw_runU (As := []) hk hH hz hS hl.1 er (hw.2.2.2.1 rfl) (va_cwA 0 hts (z_U q2244 q2146 q2147 q2148 q182 q2149) rfl rfl rfl (hk.2.2.1.1 _ q2145 rfl) (by decide +kernel) (z_room (Nat.le_of_ble_eq_true rfl))) he rfl rfl rfl (Nat.le_of_ble_eq_true rfl) dX14_worth_29 ⟨Nat.le_of_ble_eq_true rfl, Nat.le_of_ble_eq_true rfl⟩) hS hC
    · exact zr_calld (zw_runU (As := []) hk hH hz hS hl.1 er (hw.2.2.2.2.1 rfl) (va_cwA 0 hts (z_U q2244 q2146 q2283 q2148 q182 q2149) rfl rfl rfl (hk.2.2.1.1 _ q2145 rfl) (by decide +kernel) (z_room (Nat.le_of_ble_eq_true rfl))) he rfl rfl rfl (Nat.le_of_ble_eq_true rfl) dX14_worth_29 ⟨Nat.le_of_ble_eq_true rfl, Nat.le_of_ble_eq_true rfl⟩) hS hC
    · exact zr_calld (zw_runU (As := []) hk hH hz hS hl.1 er (hw.2.2.2.2.2.1 rfl) (va_cwA 0 hts (z_U q2244 q2146 q2281 q2148 q182 q2149) rfl rfl rfl (hk.2.2.1.1 _ q2145 rfl) (by decide +kernel) (z_room (Nat.le_of_ble_eq_true rfl))) he rfl rfl rfl (Nat.le_of_ble_eq_true rfl) dX14_worth_29 ⟨Nat.le_of_ble_eq_true rfl, Nat.le_of_ble_eq_true rfl⟩) hS hC
    · exact zr_calld (zw_runU (As := []) hk hH hz hS hl.1 er (hw.2.2.2.2.2.2.1 rfl) (va_cwA 0 hts (z_U q2244 q2146 q2285 q2148 q182 q2149) rfl rfl rfl (hk.2.2.1.1 _ q2145 rfl) (by decide +kernel) (z_room (Nat.le_of_ble_eq_true rfl))) he rfl rfl rfl (Nat.le_of_ble_eq_true rfl) dX14_worth_29 ⟨Nat.le_of_ble_eq_true rfl, Nat.le_of_ble_eq_true rfl⟩) hS hC
    · exact zr_calld (zw_runU (As := []) hk hH hz hS hl.1 er (hw.2.2.2.2.2.2.2.1 rfl) (va_cwA 0 hts (z_U q2244 q2146 q2279 q2148 q182 q2149) rfl rfl rfl (hk.2.2.1.1 _ q2145 rfl) (by decide +kernel) (z_room (Nat.le_of_ble_eq_true rfl))) he rfl rfl rfl (Nat.le_of_ble_eq_true rfl) dX14_worth_29 ⟨Nat.le_of_ble_eq_true rfl, Nat.le_of_ble_eq_true rfl⟩) hS hC
    · exact zr_calld (zw_runU (As := []) hk hH hz hS hl.1 er (hw.2.2.2.2.2.2.2.2.1 rfl) (va_cwA 0 hts (z_U q2244 q2146 q2286 q2237 q187 q2238) rfl rfl rfl (hk.2.2.1.1 _ q2145 rfl) (by decide +kernel) (z_room (Nat.le_of_ble_eq_true rfl))) he rfl rfl rfl (Nat.le_of_ble_eq_true rfl) dX14_worth_29 ⟨Nat.le_of_ble_eq_true rfl, Nat.le_of_ble_eq_true rfl⟩) hS hC
    · exact zr_calld (zw_runU (As := []) hk hH hz hS hl.1 er (hw.2.2.2.2.2.2.2.2.2.1 rfl) (va_cwA 0 hts (z_U q2244 q2146 q2287 q2240 q188 q2241) rfl rfl rfl (hk.2.2.1.1 _ q2145 rfl) (by decide +kernel) (z_room (Nat.le_of_ble_eq_true rfl))) he rfl rfl rfl (Nat.le_of_ble_eq_true rfl) dX14_worth_29 ⟨Nat.le_of_ble_eq_true rfl, Nat.le_of_ble_eq_true rfl⟩) hS hC
    · exact zr_calld (zw_runU (As := []) hk hH hz hS hl.1 er (hw.2.2.2.2.2.2.2.2.2.2.1 rfl) (va_cwA 0 hts (z_U q2244 q2146 q2284 q2234 q189 q2235) rfl rfl rfl (hk.2.2.1.1 _ q2145 rfl) (by decide +kernel) (z_room (Nat.le_of_ble_eq_true rfl))) he rfl rfl rfl (Nat.le_of_ble_eq_true rfl) dX14_worth_29 ⟨Nat.le_of_ble_eq_true rfl, Nat.le_of_ble_eq_true rfl⟩) hS hC
    · exact zr_calld (zw_runU (As := []) hk hH hz hS hl.1 er (hw.2.2.2.2.2.2.2.2.2.2.2.1 rfl) (va_cwA 0 hts (z_U q2244 q2146 q2289 q2245 q190 q2246) rfl rfl rfl (hk.2.2.1.1 _ q2145 rfl) (by decide +kernel) (z_room (Nat.le_of_ble_eq_true rfl))) he rfl rfl rfl (Nat.le_of_ble_eq_true rfl) dX14_worth_29 ⟨Nat.le_of_ble_eq_true rfl, Nat.le_of_ble_eq_true rfl⟩) hS hC
    · exact zr_calld (zw_runU (As := []) hk hH hz hS hl.1 er (hw.2.2.2.2.2.2.2.2.2.2.2.2.1 rfl) (va_cwA 0 hts (z_U q2244 q2146 q2290 q2245 q190 q2246) rfl rfl rfl (hk.2.2.1.1 _ q2145 rfl) (by decide +kernel) (z_room (Nat.le_of_ble_eq_true rfl))) he rfl rfl rfl (Nat.le_of_ble_eq_true rfl) dX14_worth_29 ⟨Nat.le_of_ble_eq_true rfl, Nat.le_of_ble_eq_true rfl⟩) hS hC
    · exact zr_calld (zw_runU (As := []) hk hH hz hS hl.1 er (hw.2.2.2.2.2.2.2.2.2.2.2.2.2 rfl) (va_cwA 0 hts (z_U q2244 q2146 q2230 q2231 q178 q2232) rfl rfl rfl (hk.2.2.1.1 _ q2145 rfl) (by decide +kernel) (z_room (Nat.le_of_ble_eq_true rfl))) he rfl rfl rfl (Nat.le_of_ble_eq_true rfl) dX14_worth_29 ⟨Nat.le_of_ble_eq_true rfl, Nat.le_of_ble_eq_true rfl⟩) hS hC
  simp only [List.mem_cons, List.not_mem_nil, or_false] at hc
  rcases hc with rfl | rfl | rfl | rfl | rfl | rfl | rfl | rfl | rfl | rfl | rfl | rfl | rfl | rfl
  · exact zr_calld (zw_runU (As := []) hk hH hz hS hl.1 er (hw.1 rfl) (va_cwA 0 hts (z_U q2244 q2146 q2288 q2242 q177 q2243) rfl rfl rfl (hk.2.2.1.1 _ q2145 rfl) (by decide +kernel) (z_room (Nat.le_of_ble_eq_true rfl))) he rfl rfl rfl (Nat.le_of_ble_eq_true rfl) dX14_worth_4 ⟨Nat.le_of_ble_eq_true rfl, Nat.le_of_ble_eq_true rfl⟩) hS hC
  · exact zr_calld (zw_runU (As := []) hk hH hz hS hl.1 er (hw.2.1 rfl) (va_cwA 0 hts (z_U q2244 q2146 q2282 q2231 q178 q2232) rfl rfl rfl (hk.2.2.1.1 _ q2145 rfl) (by decide +kernel) (z_room (Nat.le_of_ble_eq_true rfl))) he rfl rfl rfl (Nat.le_of_ble_eq_true rfl) dX14_worth_4 ⟨Nat.le_of_ble_eq_true rfl, Nat.le_of_ble_eq_true rfl⟩) hS hC
  · exact zr_calld (zw_runU (As := []) hk hH hz hS hl.1 er (hw.2.2.1 rfl) (va_cwA 0 hts (z_U q2244 q2146 q2280 q2231 q178 q2232) rfl rfl rfl (hk.2.2.1.1 _ q2145 rfl) (by decide +kernel) (z_room (Nat.le_of_ble_eq_true rfl))) he rfl rfl rfl (Nat.le_of_ble_eq_true rfl) dX14_worth_4 ⟨Nat.le_of_ble_eq_true rfl, Nat.le_of_ble_eq_true rfl⟩) hS hC
  · exact zr_calld (zw_runU (As := []) hk hH hz hS hl.1 er (hw.2.2.2.1 rfl) (va_cwA 0 hts (z_U q2244 q2146 q2147 q2148 q182 q2149) rfl rfl rfl (hk.2.2.1.1 _ q2145 rfl) (by decide +kernel) (z_room (Nat.le_of_ble_eq_true rfl))) he rfl rfl rfl (Nat.le_of_ble_eq_true rfl) dX14_worth_4 ⟨Nat.le_of_ble_eq_true rfl, Nat.le_of_ble_eq_true rfl⟩) hS hC
  · exact zr_calld (zw_runU (As := []) hk hH hz hS hl.1 er (hw.2.2.2.2.1 rfl) (va_cwA 0 hts (z_U q2244 q2146 q2283 q2148 q182 q2149) rfl rfl rfl (hk.2.2.1.1 _ q2145 rfl) (by decide +kernel) (z_room (Nat.le_of_ble_eq_true rfl))) he rfl rfl rfl (Nat.le_of_ble_eq_true rfl) dX14_worth_4 ⟨Nat.le_of_ble_eq_true rfl, Nat.le_of_ble_eq_true rfl⟩) hS hC
  · exact zr_calld (zw_runU (As := []) hk hH hz hS hl.1 er (hw.2.2.2.2.2.1 rfl) (va_cwA 0 hts (z_U q2244 q2146 q2281 q2148 q182 q2149) rfl rfl rfl (hk.2.2.1.1 _ q2145 rfl) (by decide +kernel) (z_room (Nat.le_of_ble_eq_true rfl))) he rfl rfl rfl (Nat.le_of_ble_eq_true rfl) dX14_worth_4 ⟨Nat.le_of_ble_eq_true rfl, Nat.le_of_ble_eq_true rfl⟩) hS hC
  · exact zr_calld (zw_runU (As := []) hk hH hz hS hl.1 er (hw.2.2.2.2.2.2.1 rfl) (va_cwA 0 hts (z_U q2244 q2146 q2285 q2148 q182 q2149) rfl rfl rfl (hk.2.2.1.1 _ q2145 rfl) (by decide +kernel) (z_room (Nat.le_of_ble_eq_true rfl))) he rfl rfl rfl (Nat.le_of_ble_eq_true rfl) dX14_worth_4 ⟨Nat.le_of_ble_eq_true rfl, Nat.le_of_ble_eq_true rfl⟩) hS hC
  · exact zr_calld (zw_runU (As := []) hk hH hz hS hl.1 er (hw.2.2.2.2.2.2.2.1 rfl) (va_cwA 0 hts (z_U q2244 q2146 q2279 q2148 q182 q2149) rfl rfl rfl (hk.2.2.1.1 _ q2145 rfl) (by decide +kernel) (z_room (Nat.le_of_ble_eq_true rfl))) he rfl rfl rfl (Nat.le_of_ble_eq_true rfl) dX14_worth_4 ⟨Nat.le_of_ble_eq_true rfl, Nat.le_of_ble_eq_true rfl⟩) hS hC
  · exact zr_calld (zw_runU (As := []) hk hH hz hS hl.1 er (hw.2.2.2.2.2.2.2.2.1 rfl) (va_cwA 0 hts (z_U q2244 q2146 q2286 q2237 q187 q2238) rfl rfl rfl (hk.2.2.1.1 _ q2145 rfl) (by decide +kernel) (z_room (Nat.le_of_ble_eq_true rfl))) he rfl rfl rfl (Nat.le_of_ble_eq_true rfl) dX14_worth_4 ⟨Nat.le_of_ble_eq_true rfl, Nat.le_of_ble_eq_true rfl⟩) hS hC
  · exact zr_calld (zw_runU (As := []) hk hH hz hS hl.1 er (hw.2.2.2.2.2.2.2.2.2.1 rfl) (va_cwA 0 hts (z_U q2244 q2146 q2287 q2240 q188 q2241) rfl rfl rfl (hk.2.2.1.1 _ q2145 rfl) (by decide +kernel) (z_room (Nat.le_of_ble_eq_true rfl))) he rfl rfl rfl (Nat.le_of_ble_eq_true rfl) dX14_worth_4 ⟨Nat.le_of_ble_eq_true rfl, Nat.le_of_ble_eq_true rfl⟩) hS hC
  · exact zr_calld (zw_runU (As := []) hk hH hz hS hl.1 er (hw.2.2.2.2.2.2.2.2.2.2.1 rfl) (va_cwA 0 hts (z_U q2244 q2146 q2284 q2234 q189 q2235) rfl rfl rfl (hk.2.2.1.1 _ q2145 rfl) (by decide +kernel) (z_room (Nat.le_of_ble_eq_true rfl))) he rfl rfl rfl (Nat.le_of_ble_eq_true rfl) dX14_worth_4 ⟨Nat.le_of_ble_eq_true rfl, Nat.le_of_ble_eq_true rfl⟩) hS hC
  · exact zr_calld (zw_runU (As := []) hk hH hz hS hl.1 er (hw.2.2.2.2.2.2.2.2.2.2.2.1 rfl) (va_cwA 0 hts (z_U q2244 q2146 q2289 q2245 q190 q2246) rfl rfl rfl (hk.2.2.1.1 _ q2145 rfl) (by decide +kernel) (z_room (Nat.le_of_ble_eq_true rfl))) he rfl rfl rfl (Nat.le_of_ble_eq_true rfl) dX14_worth_4 ⟨Nat.le_of_ble_eq_true rfl, Nat.le_of_ble_eq_true rfl⟩) hS hC
  · exact zr_calld (zw_runU (As := []) hk hH hz hS hl.1 er (hw.2.2.2.2.2.2.2.2.2.2.2.2.1 rfl) (va_cwA 0 hts (z_U q2244 q2146 q2290 q2245 q190 q2246) rfl rfl rfl (hk.2.2.1.1 _ q2145 rfl) (by decide +kernel) (z_room (Nat.le_of_ble_eq_true rfl))) he rfl rfl rfl (Nat.le_of_ble_eq_true rfl) dX14_worth_4 ⟨Nat.le_of_ble_eq_true rfl, Nat.le_of_ble_eq_true rfl⟩) hS hC
  · exact zr_calld (zw_runU (As := []) hk hH hz hS hl.1 er (hw.2.2.2.2.2.2.2.2.2.2.2.2.2 rfl) (va_cwA 0 hts (z_U q2244 q2146 q2230 q2231 q178 q2232) rfl rfl rfl (hk.2.2.1.1 _ q2145 rfl) (by decide +kernel) (z_room (Nat.le_of_ble_eq_true rfl))) he rfl rfl rfl (Nat.le_of_ble_eq_true rfl) dX14_worth_4 ⟨Nat.le_of_ble_eq_true rfl, Nat.le_of_ble_eq_true rfl⟩) hS hC
theorem ff_X15_1 {ci : Nat} (h : ci ∈ [16, 17, 29]) : zFf "WhatIfSheet$Two" 1 ci 2 (.object "WhatIfSheet") := by
  simp only [List.mem_cons, List.not_mem_nil, or_false] at h
  rcases h with rfl | rfl | rfl
  · exact ⟨RX16, TX16, 5, rfl, by decide, q1612, rfl, rfl, by decide +kernel⟩
  · exact ⟨RX17, TX17, 6, rfl, by decide, q1612, rfl, rfl, by decide +kernel⟩
  · exact ⟨RX29, TX29, 6, rfl, by decide, q1612, rfl, rfl, by decide +kernel⟩
theorem ff_X15_13 {ci : Nat} (h : ci ∈ [16, 17, 29]) : zFf "WhatIfSheet$Two" 13 ci 0 (.object "WhatIfSheet$Node") := by
  simp only [List.mem_cons, List.not_mem_nil, or_false] at h
  rcases h with rfl | rfl | rfl
  · exact ⟨RX16, TX16, 5, rfl, by decide, q1610, rfl, rfl, by decide +kernel⟩
  · exact ⟨RX17, TX17, 6, rfl, by decide, q1610, rfl, rfl, by decide +kernel⟩
  · exact ⟨RX29, TX29, 6, rfl, by decide, q1610, rfl, rfl, by decide +kernel⟩
theorem ff_X15_17 {ci : Nat} (h : ci ∈ [16, 17, 29]) : zFf "WhatIfSheet$Two" 17 ci 1 (.object "WhatIfSheet$Node") := by
  simp only [List.mem_cons, List.not_mem_nil, or_false] at h
  rcases h with rfl | rfl | rfl
  · exact ⟨RX16, TX16, 5, rfl, by decide, q1611, rfl, rfl, by decide +kernel⟩
  · exact ⟨RX17, TX17, 6, rfl, by decide, q1611, rfl, rfl, by decide +kernel⟩
  · exact ⟨RX29, TX29, 6, rfl, by decide, q1611, rfl, rfl, by decide +kernel⟩
def wp_X15_init (l : Launch) (g : zG) (d : Nat) (h0 : Nat) (r1 : Option Nat) (r2 : Option Nat) (r3 : Option Nat) (hp : zHp) (nx : Nat) (Post : zHp → Nat → Prop) : Prop :=
  (zpt g hp (some h0) [16, 17, 29] 2 (va_rf r1) fun hp_4 =>
  (zMt l g yX13_init cX13_init 2 none d 0 0 (.ref h0 :: [va_rf r1]) hp_4 nx (zQv g fun hp_5 nx_6 =>
  (zpt g hp_5 (some h0) [16, 17, 29] 0 (va_rf r2) fun hp_10 =>
  (zpt g hp_10 (some h0) [16, 17, 29] 1 (va_rf r3) fun hp_14 =>
  (Post hp_14 nx_6))))))
set_option maxHeartbeats 40000000 in
theorem met_X15_init {l : Launch} {g : zG} {d : Nat} {h0 : Nat} {r1 : Option Nat} {r2 : Option Nat} {r3 : Option Nat} {hp : zHp} {nx : Nat} {Post : zHp → Nat → Prop} (hw : wp_X15_init l g d h0 r1 r2 r3 hp nx Post) : zMt l g yX15_init cX15_init 4 none (d + 1) 0 0 [.ref h0, va_rf r1, va_rf r2, va_rf r3] hp nx (zQv g Post) := by
  refine z_start (by decide) (by cases r1 <;> cases r2 <;> cases r3 <;> exact Nat.le_of_ble_eq_true rfl) ?_
  intro p e s m below meth c hk hr hin hH hz ls hl
  have hx := hk.1.1
  have hb := hk.1.2.1
  have hown := hk.1.2.2.2.1
  have hts := hk.1.2.2.2.2
  have hS : va_S (zAd g) s.heap s.heap [] := va_S.rf
  have hl : lv_has ls 4 [(0, va_rf (some h0)), (1, va_rf r1), (2, va_rf r2), (3, va_rf r3)] := by cases r1 <;> cases r2 <;> cases r3 <;> exact hl
  unfold wp_X15_init at hw
  refine zr_aload_n (r := some h0) hx hb dX15_init_0 rfl (lv_at hl 0 rfl) ?_
  refine zr_aload_n (r := r1) hx hb dX15_init_1 rfl (lv_at hl 1 rfl) ?_
  obtain ⟨a_1, ci_2, fs_3, hp_4, er, he, hc, hA, hkl, eh, hw⟩ := zpt_e hw
  refine zw_putF hk hin hH hz hS er he hA hkl eh (ff_X15_1 hc) (z_narR _ _) (z_fitR _ _) dX15_init_2 (fun H locs hH hz hS => ?_)
  refine zr_aload_n (r := some h0) hx hb dX15_init_5 rfl (lv_at hl 0 rfl) ?_
  refine zr_aload_n (r := r1) hx hb dX15_init_6 rfl (lv_at hl 1 rfl) ?_
  refine zr_callv (zw_runIN (As := [va_rf r1]) (r := some h0) hk hH hz hS hl.1 rfl hw ⟨va_cnB 1 hts (lw_meth q1576) rfl rfl rfl (hk.2.2.1.1 _ q1608 rfl) (hts _ q176) (by decide +kernel) (z_room (Nat.le_of_ble_eq_true rfl)), rfl, hts _ q1575⟩ rfl rfl (Nat.le_of_ble_eq_true rfl) dX15_init_7 ⟨Nat.le_of_ble_eq_true rfl, Nat.le_of_ble_eq_true rfl⟩) hS (fun hp_5 nx_6 hw H locs hH hz hS => ?_)
  refine zr_aload_n (r := some h0) hx hb dX15_init_10 rfl (lv_at hl 0 rfl) ?_
  refine zr_aload_n (r := r2) hx hb dX15_init_11 rfl (lv_at hl 2 rfl) ?_
  obtain ⟨a_7, ci_8, fs_9, hp_10, er, he, hc, hA, hkl, eh, hw⟩ := zpt_e hw
  refine zw_putF hk hin hH hz hS er he hA hkl eh (ff_X15_13 hc) (z_narR _ _) (z_fitR _ _) dX15_init_12 (fun H locs hH hz hS => ?_)
  refine zr_aload_n (r := some h0) hx hb dX15_init_15 rfl (lv_at hl 0 rfl) ?_
  refine zr_aload_n (r := r3) hx hb dX15_init_16 rfl (lv_at hl 3 rfl) ?_
  obtain ⟨a_11, ci_12, fs_13, hp_14, er, he, hc, hA, hkl, eh, hw⟩ := zpt_e hw
  refine zw_putF hk hin hH hz hS er he hA hkl eh (ff_X15_17 hc) (z_narR _ _) (z_fitR _ _) dX15_init_17 (fun H locs hH hz hS => ?_)
  exact zr_vret hk hr hH hz hS hw (Nat.le_of_ble_eq_true rfl) (Nat.le_of_ble_eq_true rfl) dX15_init_20
theorem fk_X15_13 {ci : Nat} (h : ci ∈ [16, 17, 29]) : zFk "WhatIfSheet$Two" 13 ci 0 := by
  simp only [List.mem_cons, List.not_mem_nil, or_false] at h
  rcases h with rfl | rfl | rfl
  · exact ⟨RX16, TX16, 5, rfl, by decide, q1610⟩
  · exact ⟨RX17, TX17, 6, rfl, by decide, q1610⟩
  · exact ⟨RX29, TX29, 6, rfl, by decide, q1610⟩
theorem fk_X15_17 {ci : Nat} (h : ci ∈ [16, 17, 29]) : zFk "WhatIfSheet$Two" 17 ci 1 := by
  simp only [List.mem_cons, List.not_mem_nil, or_false] at h
  rcases h with rfl | rfl | rfl
  · exact ⟨RX16, TX16, 5, rfl, by decide, q1611⟩
  · exact ⟨RX17, TX17, 6, rfl, by decide, q1611⟩
  · exact ⟨RX29, TX29, 6, rfl, by decide, q1611⟩
def wp_X15_worth (l : Launch) (g : zG) (d : Nat) (h0 : Nat) (hp : zHp) (nx : Nat) (Post : UInt64 → zHp → Nat → Prop) : Prop :=
  (zgR hp (some h0) [16, 17, 29] 0 fun r_4 =>
  (zo hp r_4 [14, 16, 17, 18, 19, 20, 21, 22, 23, 24, 25, 26, 27, 29] fun a_26 ci_27 fs_28 => ∃ PP_29 : UInt64 → zHp → Nat → Prop, (∀ (x_7 : UInt64) (hp_5 : zHp) (nx_6 : Nat), PP_29 x_7 hp_5 nx_6 →
  (zgR hp_5 (some h0) [16, 17, 29] 1 fun r_11 =>
  (zo hp_5 r_11 [14, 16, 17, 18, 19, 20, 21, 22, 23, 24, 25, 26, 27, 29] fun a_22 ci_23 fs_24 => ∃ PP_25 : UInt64 → zHp → Nat → Prop, (∀ (x_14 : UInt64) (hp_12 : zHp) (nx_13 : Nat), PP_25 x_14 hp_12 nx_13 →
  (zo hp_12 (some h0) [16, 17, 29] fun a_18 ci_19 fs_20 => ∃ PP_21 : UInt64 → zHp → Nat → Prop, (∀ (x_17 : UInt64) (hp_15 : zHp) (nx_16 : Nat), PP_21 x_17 hp_15 nx_16 →
  (Post x_17 hp_15 nx_16)) ∧ ((ci_19 = 16 → zMt l g yX16_joined cX16_joined 5 (some .double) d 0 0 (.ref a_18 :: [.double x_7, .double x_14]) hp_12 nx_13 (zQd g PP_21)) ∧ (ci_19 = 17 → zMt l g yX16_joined cX16_joined 5 (some .double) d 0 0 (.ref a_18 :: [.double x_7, .double x_14]) hp_12 nx_13 (zQd g PP_21)) ∧ (ci_19 = 29 → zMt l g yX29_joined cX29_joined 5 (some .double) d 0 0 (.ref a_18 :: [.double x_7, .double x_14]) hp_12 nx_13 (zQd g PP_21))))) ∧ ((ci_23 = 14 → zMt l g yX14_worth cX14_worth 11 (some .double) d 0 0 (.ref a_22 :: []) hp_5 nx_6 (zQd g PP_25)) ∧ (ci_23 = 16 → zMt l g yX15_worth cX15_worth 5 (some .double) d 0 0 (.ref a_22 :: []) hp_5 nx_6 (zQd g PP_25)) ∧ (ci_23 = 17 → zMt l g yX15_worth cX15_worth 5 (some .double) d 0 0 (.ref a_22 :: []) hp_5 nx_6 (zQd g PP_25)) ∧ (ci_23 = 18 → zMt l g yX18_worth cX18_worth 2 (some .double) d 0 0 (.ref a_22 :: []) hp_5 nx_6 (zQd g PP_25)) ∧ (ci_23 = 19 → zMt l g yX18_worth cX18_worth 2 (some .double) d 0 0 (.ref a_22 :: []) hp_5 nx_6 (zQd g PP_25)) ∧ (ci_23 = 20 → zMt l g yX18_worth cX18_worth 2 (some .double) d 0 0 (.ref a_22 :: []) hp_5 nx_6 (zQd g PP_25)) ∧ (ci_23 = 21 → zMt l g yX18_worth cX18_worth 2 (some .double) d 0 0 (.ref a_22 :: []) hp_5 nx_6 (zQd g PP_25)) ∧ (ci_23 = 22 → zMt l g yX18_worth cX18_worth 2 (some .double) d 0 0 (.ref a_22 :: []) hp_5 nx_6 (zQd g PP_25)) ∧ (ci_23 = 23 → zMt l g yX23_worth cX23_worth 1 (some .double) d 0 0 (.ref a_22 :: []) hp_5 nx_6 (zQd g PP_25)) ∧ (ci_23 = 24 → zMt l g yX24_worth cX24_worth 1 (some .double) d 0 0 (.ref a_22 :: []) hp_5 nx_6 (zQd g PP_25)) ∧ (ci_23 = 25 → zMt l g yX25_worth cX25_worth 1 (some .double) d 0 0 (.ref a_22 :: []) hp_5 nx_6 (zQd g PP_25)) ∧ (ci_23 = 26 → zMt l g yX26_worth cX26_worth 4 (some .double) d 0 0 (.ref a_22 :: []) hp_5 nx_6 (zQd g PP_25)) ∧ (ci_23 = 27 → zMt l g yX26_worth cX26_worth 4 (some .double) d 0 0 (.ref a_22 :: []) hp_5 nx_6 (zQd g PP_25)) ∧ (ci_23 = 29 → zMt l g yX15_worth cX15_worth 5 (some .double) d 0 0 (.ref a_22 :: []) hp_5 nx_6 (zQd g PP_25)))))) ∧ ((ci_27 = 14 → zMt l g yX14_worth cX14_worth 11 (some .double) d 0 0 (.ref a_26 :: []) hp nx (zQd g PP_29)) ∧ (ci_27 = 16 → zMt l g yX15_worth cX15_worth 5 (some .double) d 0 0 (.ref a_26 :: []) hp nx (zQd g PP_29)) ∧ (ci_27 = 17 → zMt l g yX15_worth cX15_worth 5 (some .double) d 0 0 (.ref a_26 :: []) hp nx (zQd g PP_29)) ∧ (ci_27 = 18 → zMt l g yX18_worth cX18_worth 2 (some .double) d 0 0 (.ref a_26 :: []) hp nx (zQd g PP_29)) ∧ (ci_27 = 19 → zMt l g yX18_worth cX18_worth 2 (some .double) d 0 0 (.ref a_26 :: []) hp nx (zQd g PP_29)) ∧ (ci_27 = 20 → zMt l g yX18_worth cX18_worth 2 (some .double) d 0 0 (.ref a_26 :: []) hp nx (zQd g PP_29)) ∧ (ci_27 = 21 → zMt l g yX18_worth cX18_worth 2 (some .double) d 0 0 (.ref a_26 :: []) hp nx (zQd g PP_29)) ∧ (ci_27 = 22 → zMt l g yX18_worth cX18_worth 2 (some .double) d 0 0 (.ref a_26 :: []) hp nx (zQd g PP_29)) ∧ (ci_27 = 23 → zMt l g yX23_worth cX23_worth 1 (some .double) d 0 0 (.ref a_26 :: []) hp nx (zQd g PP_29)) ∧ (ci_27 = 24 → zMt l g yX24_worth cX24_worth 1 (some .double) d 0 0 (.ref a_26 :: []) hp nx (zQd g PP_29)) ∧ (ci_27 = 25 → zMt l g yX25_worth cX25_worth 1 (some .double) d 0 0 (.ref a_26 :: []) hp nx (zQd g PP_29)) ∧ (ci_27 = 26 → zMt l g yX26_worth cX26_worth 4 (some .double) d 0 0 (.ref a_26 :: []) hp nx (zQd g PP_29)) ∧ (ci_27 = 27 → zMt l g yX26_worth cX26_worth 4 (some .double) d 0 0 (.ref a_26 :: []) hp nx (zQd g PP_29)) ∧ (ci_27 = 29 → zMt l g yX15_worth cX15_worth 5 (some .double) d 0 0 (.ref a_26 :: []) hp nx (zQd g PP_29)))))
set_option maxHeartbeats 40000000 in
theorem met_X15_worth {l : Launch} {g : zG} {d : Nat} {h0 : Nat} {hp : zHp} {nx : Nat} {Post : UInt64 → zHp → Nat → Prop} (hw : wp_X15_worth l g d h0 hp nx Post) : zMt l g yX15_worth cX15_worth 5 (some .double) (d + 1) 0 0 [.ref h0] hp nx (zQd g Post) := by
  refine z_start (by decide) (Nat.le_of_ble_eq_true rfl) ?_
  intro p e s m below meth c hk hr hin hH hz ls hl
  have hx := hk.1.1
  have hb := hk.1.2.1
  have hown := hk.1.2.2.2.1
  have hts := hk.1.2.2.2.2
  have hS : va_S (zAd g) s.heap s.heap [] := va_S.rf
  have hl : lv_has ls 5 [(0, va_rf (some h0))] := hl
  unfold wp_X15_worth at hw
  refine zr_aload_n (r := some h0) hx hb dX15_worth_0 rfl (lv_at hl 0 rfl) ?_
  obtain ⟨a_1, ci_2, fs_3, r_4, er, he, hc, hv, hw⟩ := zgR_e hw
  refine zw_get hk hH er he hv (fk_X15_13 hc) dX15_worth_1 ?_
  obtain ⟨a_26, ci_27, fs_28, er, he, hc, PP_29, hPP, hw⟩ := zo_e hw
  have hC : ∀ (x_7 : UInt64) (hp_5 : zHp) (nx_6 : Nat), PP_29 x_7 hp_5 nx_6 → ∀ (H : Heap) (locs : List Loc), zHd g hp_5 H → H.size = nx_6 → va_S (zAd g) s.heap H locs → W p l e (zrm (d + 1) 0 0) s m ([.ref h0] : List Value).toArray below meth c H locs (0 + 0) (0 + 0) (MQ below (zQd g Post) ([.ref h0] : List Value).toArray s 0 0 (zAd g)) (F0 m 7 ls [.double x_7]) := by
    intro x_7 hp_5 nx_6 hw H locs hH hz hS
    have hw := hPP x_7 hp_5 nx_6 hw
    refine lv_dstore_n (i := 1) (lv' := [(1, .double x_7), (0, va_rf (some h0))]) hx hb dX15_worth_7 rfl hl (by decide) (by first | rfl | simp [List.filter_cons, z_cat, z_catI, z_catJ, z_catF, z_catD]) (fun ls hl => ?_)
    refine zr_aload_n (r := some h0) hx hb dX15_worth_8 rfl (lv_at hl 1 rfl) ?_
    obtain ⟨a_8, ci_9, fs_10, r_11, er, he, hc, hv, hw⟩ := zgR_e hw
    refine zw_get hk hH er he hv (fk_X15_17 hc) dX15_worth_9 ?_
    obtain ⟨a_22, ci_23, fs_24, er, he, hc, PP_25, hPP, hw⟩ := zo_e hw
    have hC : ∀ (x_14 : UInt64) (hp_12 : zHp) (nx_13 : Nat), PP_25 x_14 hp_12 nx_13 → ∀ (H : Heap) (locs : List Loc), zHd g hp_12 H → H.size = nx_13 → va_S (zAd g) s.heap H locs → W p l e (zrm (d + 1) 0 0) s m ([.ref h0] : List Value).toArray below meth c H locs (0 + 0) (0 + 0) (MQ below (zQd g Post) ([.ref h0] : List Value).toArray s 0 0 (zAd g)) (F0 m 15 ls [.double x_14]) := by
      intro x_14 hp_12 nx_13 hw H locs hH hz hS
      have hw := hPP x_14 hp_12 nx_13 hw
      refine lv_dstore_n (i := 3) (lv' := [(3, .double x_14), (1, .double x_7), (0, va_rf (some h0))]) hx hb dX15_worth_15 rfl hl (by decide) (by first | rfl | simp [List.filter_cons, z_cat, z_catI, z_catJ, z_catF, z_catD]) (fun ls hl => ?_)
      refine zr_aload_n (r := some h0) hx hb dX15_worth_16 rfl (lv_at hl 2 rfl) ?_
      refine lv_dload_n hx hb dX15_worth_17 rfl (lv_at hl 1 rfl) ?_
      refine lv_dload_n hx hb dX15_worth_18 rfl (lv_at hl 0 rfl) ?_
      obtain ⟨a_18, ci_19, fs_20, er, he, hc, PP_21, hPP, hw⟩ := zo_e hw
      have hC : ∀ (x_17 : UInt64) (hp_15 : zHp) (nx_16 : Nat), PP_21 x_17 hp_15 nx_16 → ∀ (H : Heap) (locs : List Loc), zHd g hp_15 H → H.size = nx_16 → va_S (zAd g) s.heap H locs → W p l e (zrm (d + 1) 0 0) s m ([.ref h0] : List Value).toArray below meth c H locs (0 + 0) (0 + 0) (MQ below (zQd g Post) ([.ref h0] : List Value).toArray s 0 0 (zAd g)) (F0 m 22 ls [.double x_17]) := by
        intro x_17 hp_15 nx_16 hw H locs hH hz hS
        have hw := hPP x_17 hp_15 nx_16 hw
        exact zr_dret hk hr hH hz hS hw (Nat.le_of_ble_eq_true rfl) (Nat.le_of_ble_eq_true rfl) dX15_worth_22
      simp only [List.mem_cons, List.not_mem_nil, or_false] at hc
      rcases hc with rfl | rfl | rfl
      · exact zr_calld (zw_runU (As := [.double x_7, .double x_14]) hk hH hz hS hl.1 er (hw.1 rfl) (va_cwA 2 hts (z_U q2260 q2262 q2278 q2267 q179 q2268) rfl rfl rfl (hk.2.2.1.1 _ q2261 rfl) (by decide +kernel) (z_room (Nat.le_of_ble_eq_true rfl))) he rfl rfl rfl (Nat.le_of_ble_eq_true rfl) dX15_worth_19 ⟨Nat.le_of_ble_eq_true rfl, Nat.le_of_ble_eq_true rfl⟩) hS hC
      · exact zr_calld (zw_runU (As := [.double x_7, .double x_14]) hk hH hz hS hl.1 er (hw.2.1 rfl) (va_cwA 2 hts (z_U q2260 q2262 q2266 q2267 q179 q2268) rfl rfl rfl (hk.2.2.1.1 _ q2261 rfl) (by decide +kernel) (z_room (Nat.le_of_ble_eq_true rfl))) he rfl rfl rfl (Nat.le_of_ble_eq_true rfl) dX15_worth_19 ⟨Nat.le_of_ble_eq_true rfl, Nat.le_of_ble_eq_true rfl⟩) hS hC
      · exact zr_calld (zw_runU (As := [.double x_7, .double x_14]) hk hH hz hS hl.1 er (hw.2.2 rfl) (va_cwA 2 hts (z_U q2260 q2262 q2263 q2264 q193 q2265) rfl rfl rfl (hk.2.2.1.1 _ q2261 rfl) (by decide +kernel) (z_room (Nat.le_of_ble_eq_true rfl))) he rfl rfl rfl (Nat.le_of_ble_eq_true rfl) dX15_worth_19 ⟨Nat.le_of_ble_eq_true rfl, Nat.le_of_ble_eq_true rfl⟩) hS hC
    simp only [List.mem_cons, List.not_mem_nil, or_false] at hc
    rcases hc with rfl | rfl | rfl | rfl | rfl | rfl | rfl | rfl | rfl | rfl | rfl | rfl | rfl | rfl
    · exact zr_calld (zw_runU (As := []) hk hH hz hS hl.1 er (hw.1 rfl) (va_cwA 0 hts (z_U q2233 q2146 q2288 q2242 q177 q2243) rfl rfl rfl (hk.2.2.1.1 _ q2145 rfl) (by decide +kernel) (z_room (Nat.le_of_ble_eq_true rfl))) he rfl rfl rfl (Nat.le_of_ble_eq_true rfl) dX15_worth_12 ⟨Nat.le_of_ble_eq_true rfl, Nat.le_of_ble_eq_true rfl⟩) hS hC
    · exact zr_calld (zw_runU (As := []) hk hH hz hS hl.1 er (hw.2.1 rfl) (va_cwA 0 hts (z_U q2233 q2146 q2282 q2231 q178 q2232) rfl rfl rfl (hk.2.2.1.1 _ q2145 rfl) (by decide +kernel) (z_room (Nat.le_of_ble_eq_true rfl))) he rfl rfl rfl (Nat.le_of_ble_eq_true rfl) dX15_worth_12 ⟨Nat.le_of_ble_eq_true rfl, Nat.le_of_ble_eq_true rfl⟩) hS hC
    · exact zr_calld (zw_runU (As := []) hk hH hz hS hl.1 er (hw.2.2.1 rfl) (va_cwA 0 hts (z_U q2233 q2146 q2280 q2231 q178 q2232) rfl rfl rfl (hk.2.2.1.1 _ q2145 rfl) (by decide +kernel) (z_room (Nat.le_of_ble_eq_true rfl))) he rfl rfl rfl (Nat.le_of_ble_eq_true rfl) dX15_worth_12 ⟨Nat.le_of_ble_eq_true rfl, Nat.le_of_ble_eq_true rfl⟩) hS hC
    · exact zr_calld (zw_runU (As := []) hk hH hz hS hl.1 er (hw.2.2.2.1 rfl) (va_cwA 0 hts (z_U q2233 q2146 q2147 q2148 q182 q2149) rfl rfl rfl (hk.2.2.1.1 _ q2145 rfl) (by decide +kernel) (z_room (Nat.le_of_ble_eq_true rfl))) he rfl rfl rfl (Nat.le_of_ble_eq_true rfl) dX15_worth_12 ⟨Nat.le_of_ble_eq_true rfl, Nat.le_of_ble_eq_true rfl⟩) hS hC
    · exact zr_calld (zw_runU (As := []) hk hH hz hS hl.1 er (hw.2.2.2.2.1 rfl) (va_cwA 0 hts (z_U q2233 q2146 q2283 q2148 q182 q2149) rfl rfl rfl (hk.2.2.1.1 _ q2145 rfl) (by decide +kernel) (z_room (Nat.le_of_ble_eq_true rfl))) he rfl rfl rfl (Nat.le_of_ble_eq_true rfl) dX15_worth_12 ⟨Nat.le_of_ble_eq_true rfl, Nat.le_of_ble_eq_true rfl⟩) hS hC
    · exact zr_calld (zw_runU (As := []) hk hH hz hS hl.1 er (hw.2.2.2.2.2.1 rfl) (va_cwA 0 hts (z_U q2233 q2146 q2281 q2148 q182 q2149) rfl rfl rfl (hk.2.2.1.1 _ q2145 rfl) (by decide +kernel) (z_room (Nat.le_of_ble_eq_true rfl))) he rfl rfl rfl (Nat.le_of_ble_eq_true rfl) dX15_worth_12 ⟨Nat.le_of_ble_eq_true rfl, Nat.le_of_ble_eq_true rfl⟩) hS hC
    · exact zr_calld (zw_runU (As := []) hk hH hz hS hl.1 er (hw.2.2.2.2.2.2.1 rfl) (va_cwA 0 hts (z_U q2233 q2146 q2285 q2148 q182 q2149) rfl rfl rfl (hk.2.2.1.1 _ q2145 rfl) (by decide +kernel) (z_room (Nat.le_of_ble_eq_true rfl))) he rfl rfl rfl (Nat.le_of_ble_eq_true rfl) dX15_worth_12 ⟨Nat.le_of_ble_eq_true rfl, Nat.le_of_ble_eq_true rfl⟩) hS hC
    · exact zr_calld (zw_runU (As := []) hk hH hz hS hl.1 er (hw.2.2.2.2.2.2.2.1 rfl) (va_cwA 0 hts (z_U q2233 q2146 q2279 q2148 q182 q2149) rfl rfl rfl (hk.2.2.1.1 _ q2145 rfl) (by decide +kernel) (z_room (Nat.le_of_ble_eq_true rfl))) he rfl rfl rfl (Nat.le_of_ble_eq_true rfl) dX15_worth_12 ⟨Nat.le_of_ble_eq_true rfl, Nat.le_of_ble_eq_true rfl⟩) hS hC
    · exact zr_calld (zw_runU (As := []) hk hH hz hS hl.1 er (hw.2.2.2.2.2.2.2.2.1 rfl) (va_cwA 0 hts (z_U q2233 q2146 q2286 q2237 q187 q2238) rfl rfl rfl (hk.2.2.1.1 _ q2145 rfl) (by decide +kernel) (z_room (Nat.le_of_ble_eq_true rfl))) he rfl rfl rfl (Nat.le_of_ble_eq_true rfl) dX15_worth_12 ⟨Nat.le_of_ble_eq_true rfl, Nat.le_of_ble_eq_true rfl⟩) hS hC
    · exact zr_calld (zw_runU (As := []) hk hH hz hS hl.1 er (hw.2.2.2.2.2.2.2.2.2.1 rfl) (va_cwA 0 hts (z_U q2233 q2146 q2287 q2240 q188 q2241) rfl rfl rfl (hk.2.2.1.1 _ q2145 rfl) (by decide +kernel) (z_room (Nat.le_of_ble_eq_true rfl))) he rfl rfl rfl (Nat.le_of_ble_eq_true rfl) dX15_worth_12 ⟨Nat.le_of_ble_eq_true rfl, Nat.le_of_ble_eq_true rfl⟩) hS hC
    · exact zr_calld (zw_runU (As := []) hk hH hz hS hl.1 er (hw.2.2.2.2.2.2.2.2.2.2.1 rfl) (va_cwA 0 hts (z_U q2233 q2146 q2284 q2234 q189 q2235) rfl rfl rfl (hk.2.2.1.1 _ q2145 rfl) (by decide +kernel) (z_room (Nat.le_of_ble_eq_true rfl))) he rfl rfl rfl (Nat.le_of_ble_eq_true rfl) dX15_worth_12 ⟨Nat.le_of_ble_eq_true rfl, Nat.le_of_ble_eq_true rfl⟩) hS hC
    · exact zr_calld (zw_runU (As := []) hk hH hz hS hl.1 er (hw.2.2.2.2.2.2.2.2.2.2.2.1 rfl) (va_cwA 0 hts (z_U q2233 q2146 q2289 q2245 q190 q2246) rfl rfl rfl (hk.2.2.1.1 _ q2145 rfl) (by decide +kernel) (z_room (Nat.le_of_ble_eq_true rfl))) he rfl rfl rfl (Nat.le_of_ble_eq_true rfl) dX15_worth_12 ⟨Nat.le_of_ble_eq_true rfl, Nat.le_of_ble_eq_true rfl⟩) hS hC
    · exact zr_calld (zw_runU (As := []) hk hH hz hS hl.1 er (hw.2.2.2.2.2.2.2.2.2.2.2.2.1 rfl) (va_cwA 0 hts (z_U q2233 q2146 q2290 q2245 q190 q2246) rfl rfl rfl (hk.2.2.1.1 _ q2145 rfl) (by decide +kernel) (z_room (Nat.le_of_ble_eq_true rfl))) he rfl rfl rfl (Nat.le_of_ble_eq_true rfl) dX15_worth_12 ⟨Nat.le_of_ble_eq_true rfl, Nat.le_of_ble_eq_true rfl⟩) hS hC
    · exact zr_calld (zw_runU (As := []) hk hH hz hS hl.1 er (hw.2.2.2.2.2.2.2.2.2.2.2.2.2 rfl) (va_cwA 0 hts (z_U q2233 q2146 q2230 q2231 q178 q2232) rfl rfl rfl (hk.2.2.1.1 _ q2145 rfl) (by decide +kernel) (z_room (Nat.le_of_ble_eq_true rfl))) he rfl rfl rfl (Nat.le_of_ble_eq_true rfl) dX15_worth_12 ⟨Nat.le_of_ble_eq_true rfl, Nat.le_of_ble_eq_true rfl⟩) hS hC
  simp only [List.mem_cons, List.not_mem_nil, or_false] at hc
  rcases hc with rfl | rfl | rfl | rfl | rfl | rfl | rfl | rfl | rfl | rfl | rfl | rfl | rfl | rfl
  · exact zr_calld (zw_runU (As := []) hk hH hz hS hl.1 er (hw.1 rfl) (va_cwA 0 hts (z_U q2233 q2146 q2288 q2242 q177 q2243) rfl rfl rfl (hk.2.2.1.1 _ q2145 rfl) (by decide +kernel) (z_room (Nat.le_of_ble_eq_true rfl))) he rfl rfl rfl (Nat.le_of_ble_eq_true rfl) dX15_worth_4 ⟨Nat.le_of_ble_eq_true rfl, Nat.le_of_ble_eq_true rfl⟩) hS hC
  · exact zr_calld (zw_runU (As := []) hk hH hz hS hl.1 er (hw.2.1 rfl) (va_cwA 0 hts (z_U q2233 q2146 q2282 q2231 q178 q2232) rfl rfl rfl (hk.2.2.1.1 _ q2145 rfl) (by decide +kernel) (z_room (Nat.le_of_ble_eq_true rfl))) he rfl rfl rfl (Nat.le_of_ble_eq_true rfl) dX15_worth_4 ⟨Nat.le_of_ble_eq_true rfl, Nat.le_of_ble_eq_true rfl⟩) hS hC
  · exact zr_calld (zw_runU (As := []) hk hH hz hS hl.1 er (hw.2.2.1 rfl) (va_cwA 0 hts (z_U q2233 q2146 q2280 q2231 q178 q2232) rfl rfl rfl (hk.2.2.1.1 _ q2145 rfl) (by decide +kernel) (z_room (Nat.le_of_ble_eq_true rfl))) he rfl rfl rfl (Nat.le_of_ble_eq_true rfl) dX15_worth_4 ⟨Nat.le_of_ble_eq_true rfl, Nat.le_of_ble_eq_true rfl⟩) hS hC
  · exact zr_calld (zw_runU (As := []) hk hH hz hS hl.1 er (hw.2.2.2.1 rfl) (va_cwA 0 hts (z_U q2233 q2146 q2147 q2148 q182 q2149) rfl rfl rfl (hk.2.2.1.1 _ q2145 rfl) (by decide +kernel) (z_room (Nat.le_of_ble_eq_true rfl))) he rfl rfl rfl (Nat.le_of_ble_eq_true rfl) dX15_worth_4 ⟨Nat.le_of_ble_eq_true rfl, Nat.le_of_ble_eq_true rfl⟩) hS hC
  · exact zr_calld (zw_runU (As := []) hk hH hz hS hl.1 er (hw.2.2.2.2.1 rfl) (va_cwA 0 hts (z_U q2233 q2146 q2283 q2148 q182 q2149) rfl rfl rfl (hk.2.2.1.1 _ q2145 rfl) (by decide +kernel) (z_room (Nat.le_of_ble_eq_true rfl))) he rfl rfl rfl (Nat.le_of_ble_eq_true rfl) dX15_worth_4 ⟨Nat.le_of_ble_eq_true rfl, Nat.le_of_ble_eq_true rfl⟩) hS hC
  · exact zr_calld (zw_runU (As := []) hk hH hz hS hl.1 er (hw.2.2.2.2.2.1 rfl) (va_cwA 0 hts (z_U q2233 q2146 q2281 q2148 q182 q2149) rfl rfl rfl (hk.2.2.1.1 _ q2145 rfl) (by decide +kernel) (z_room (Nat.le_of_ble_eq_true rfl))) he rfl rfl rfl (Nat.le_of_ble_eq_true rfl) dX15_worth_4 ⟨Nat.le_of_ble_eq_true rfl, Nat.le_of_ble_eq_true rfl⟩) hS hC
  · exact zr_calld (zw_runU (As := []) hk hH hz hS hl.1 er (hw.2.2.2.2.2.2.1 rfl) (va_cwA 0 hts (z_U q2233 q2146 q2285 q2148 q182 q2149) rfl rfl rfl (hk.2.2.1.1 _ q2145 rfl) (by decide +kernel) (z_room (Nat.le_of_ble_eq_true rfl))) he rfl rfl rfl (Nat.le_of_ble_eq_true rfl) dX15_worth_4 ⟨Nat.le_of_ble_eq_true rfl, Nat.le_of_ble_eq_true rfl⟩) hS hC
  · exact zr_calld (zw_runU (As := []) hk hH hz hS hl.1 er (hw.2.2.2.2.2.2.2.1 rfl) (va_cwA 0 hts (z_U q2233 q2146 q2279 q2148 q182 q2149) rfl rfl rfl (hk.2.2.1.1 _ q2145 rfl) (by decide +kernel) (z_room (Nat.le_of_ble_eq_true rfl))) he rfl rfl rfl (Nat.le_of_ble_eq_true rfl) dX15_worth_4 ⟨Nat.le_of_ble_eq_true rfl, Nat.le_of_ble_eq_true rfl⟩) hS hC
  · exact zr_calld (zw_runU (As := []) hk hH hz hS hl.1 er (hw.2.2.2.2.2.2.2.2.1 rfl) (va_cwA 0 hts (z_U q2233 q2146 q2286 q2237 q187 q2238) rfl rfl rfl (hk.2.2.1.1 _ q2145 rfl) (by decide +kernel) (z_room (Nat.le_of_ble_eq_true rfl))) he rfl rfl rfl (Nat.le_of_ble_eq_true rfl) dX15_worth_4 ⟨Nat.le_of_ble_eq_true rfl, Nat.le_of_ble_eq_true rfl⟩) hS hC
  · exact zr_calld (zw_runU (As := []) hk hH hz hS hl.1 er (hw.2.2.2.2.2.2.2.2.2.1 rfl) (va_cwA 0 hts (z_U q2233 q2146 q2287 q2240 q188 q2241) rfl rfl rfl (hk.2.2.1.1 _ q2145 rfl) (by decide +kernel) (z_room (Nat.le_of_ble_eq_true rfl))) he rfl rfl rfl (Nat.le_of_ble_eq_true rfl) dX15_worth_4 ⟨Nat.le_of_ble_eq_true rfl, Nat.le_of_ble_eq_true rfl⟩) hS hC
  · exact zr_calld (zw_runU (As := []) hk hH hz hS hl.1 er (hw.2.2.2.2.2.2.2.2.2.2.1 rfl) (va_cwA 0 hts (z_U q2233 q2146 q2284 q2234 q189 q2235) rfl rfl rfl (hk.2.2.1.1 _ q2145 rfl) (by decide +kernel) (z_room (Nat.le_of_ble_eq_true rfl))) he rfl rfl rfl (Nat.le_of_ble_eq_true rfl) dX15_worth_4 ⟨Nat.le_of_ble_eq_true rfl, Nat.le_of_ble_eq_true rfl⟩) hS hC
  · exact zr_calld (zw_runU (As := []) hk hH hz hS hl.1 er (hw.2.2.2.2.2.2.2.2.2.2.2.1 rfl) (va_cwA 0 hts (z_U q2233 q2146 q2289 q2245 q190 q2246) rfl rfl rfl (hk.2.2.1.1 _ q2145 rfl) (by decide +kernel) (z_room (Nat.le_of_ble_eq_true rfl))) he rfl rfl rfl (Nat.le_of_ble_eq_true rfl) dX15_worth_4 ⟨Nat.le_of_ble_eq_true rfl, Nat.le_of_ble_eq_true rfl⟩) hS hC
  · exact zr_calld (zw_runU (As := []) hk hH hz hS hl.1 er (hw.2.2.2.2.2.2.2.2.2.2.2.2.1 rfl) (va_cwA 0 hts (z_U q2233 q2146 q2290 q2245 q190 q2246) rfl rfl rfl (hk.2.2.1.1 _ q2145 rfl) (by decide +kernel) (z_room (Nat.le_of_ble_eq_true rfl))) he rfl rfl rfl (Nat.le_of_ble_eq_true rfl) dX15_worth_4 ⟨Nat.le_of_ble_eq_true rfl, Nat.le_of_ble_eq_true rfl⟩) hS hC
  · exact zr_calld (zw_runU (As := []) hk hH hz hS hl.1 er (hw.2.2.2.2.2.2.2.2.2.2.2.2.2 rfl) (va_cwA 0 hts (z_U q2233 q2146 q2230 q2231 q178 q2232) rfl rfl rfl (hk.2.2.1.1 _ q2145 rfl) (by decide +kernel) (z_room (Nat.le_of_ble_eq_true rfl))) he rfl rfl rfl (Nat.le_of_ble_eq_true rfl) dX15_worth_4 ⟨Nat.le_of_ble_eq_true rfl, Nat.le_of_ble_eq_true rfl⟩) hS hC
theorem ff_X16_1 {ci : Nat} (h : ci ∈ [16, 17]) : zFf "WhatIfSheet$Lesser" 1 ci 4 (.object "WhatIfSheet") := by
  simp only [List.mem_cons, List.not_mem_nil, or_false] at h
  rcases h with rfl | rfl
  · exact ⟨RX16, TX16, 5, rfl, by decide, q1609, rfl, rfl, by decide +kernel⟩
  · exact ⟨RX17, TX17, 6, rfl, by decide, q1609, rfl, rfl, by decide +kernel⟩
def wp_X16_init (l : Launch) (g : zG) (d : Nat) (h0 : Nat) (r1 : Option Nat) (r2 : Option Nat) (r3 : Option Nat) (hp : zHp) (nx : Nat) (Post : zHp → Nat → Prop) : Prop :=
  (zpt g hp (some h0) [16, 17] 4 (va_rf r1) fun hp_4 =>
  (zMt l g yX15_init cX15_init 4 none d 0 0 (.ref h0 :: [va_rf r1, va_rf r2, va_rf r3]) hp_4 nx (zQv g fun hp_5 nx_6 =>
  (Post hp_5 nx_6))))
set_option maxHeartbeats 40000000 in
theorem met_X16_init {l : Launch} {g : zG} {d : Nat} {h0 : Nat} {r1 : Option Nat} {r2 : Option Nat} {r3 : Option Nat} {hp : zHp} {nx : Nat} {Post : zHp → Nat → Prop} (hw : wp_X16_init l g d h0 r1 r2 r3 hp nx Post) : zMt l g yX16_init cX16_init 4 none (d + 1) 0 0 [.ref h0, va_rf r1, va_rf r2, va_rf r3] hp nx (zQv g Post) := by
  refine z_start (by decide) (by cases r1 <;> cases r2 <;> cases r3 <;> exact Nat.le_of_ble_eq_true rfl) ?_
  intro p e s m below meth c hk hr hin hH hz ls hl
  have hx := hk.1.1
  have hb := hk.1.2.1
  have hown := hk.1.2.2.2.1
  have hts := hk.1.2.2.2.2
  have hS : va_S (zAd g) s.heap s.heap [] := va_S.rf
  have hl : lv_has ls 4 [(0, va_rf (some h0)), (1, va_rf r1), (2, va_rf r2), (3, va_rf r3)] := by cases r1 <;> cases r2 <;> cases r3 <;> exact hl
  unfold wp_X16_init at hw
  refine zr_aload_n (r := some h0) hx hb dX16_init_0 rfl (lv_at hl 0 rfl) ?_
  refine zr_aload_n (r := r1) hx hb dX16_init_1 rfl (lv_at hl 1 rfl) ?_
  obtain ⟨a_1, ci_2, fs_3, hp_4, er, he, hc, hA, hkl, eh, hw⟩ := zpt_e hw
  refine zw_putF hk hin hH hz hS er he hA hkl eh (ff_X16_1 hc) (z_narR _ _) (z_fitR _ _) dX16_init_2 (fun H locs hH hz hS => ?_)
  refine zr_aload_n (r := some h0) hx hb dX16_init_5 rfl (lv_at hl 0 rfl) ?_
  refine zr_aload_n (r := r1) hx hb dX16_init_6 rfl (lv_at hl 1 rfl) ?_
  refine zr_aload_n (r := r2) hx hb dX16_init_7 rfl (lv_at hl 2 rfl) ?_
  refine zr_aload_n (r := r3) hx hb dX16_init_8 rfl (lv_at hl 3 rfl) ?_
  refine zr_callv (zw_runI (As := [va_rf r1, va_rf r2, va_rf r3]) (r := some h0) hk hH hz hS hl.1 rfl hw (cwI 3 hts (lw_meth q1607) rfl rfl rfl (hts _ q178) (hts _ q1605) (hts _ q1606) rfl (by decide +kernel) (z_room (Nat.le_of_ble_eq_true rfl))) rfl rfl (Nat.le_of_ble_eq_true rfl) dX16_init_9 ⟨Nat.le_of_ble_eq_true rfl, Nat.le_of_ble_eq_true rfl⟩) hS (fun hp_5 nx_6 hw H locs hH hz hS => ?_)
  exact zr_vret hk hr hH hz hS hw (Nat.le_of_ble_eq_true rfl) (Nat.le_of_ble_eq_true rfl) dX16_init_12
def wp_X16_joined (l : Launch) (g : zG) (d : Nat) (h0 : Nat) (x1 : UInt64) (x3 : UInt64) (hp : zHp) (nx : Nat) (Post : UInt64 → zHp → Nat → Prop) : Prop :=
  (zo hp (some h0) [16, 17] fun a_7 ci_8 fs_9 => ∃ PP_10 : Int32 → zHp → Nat → Prop, (∀ (x_3 : Int32) (hp_1 : zHp) (nx_2 : Nat), PP_10 x_3 hp_1 nx_2 →
  (∃ P_14 : UInt64 → zHp → Nat → Prop, (∀ (x_4 : UInt64) (hp_5 : zHp) (nx_6 : Nat), P_14 x_4 hp_5 nx_6 →
  (Post x_4 hp_5 nx_6)) ∧
  ((x_3 = 0 →
  P_14 x1 hp_1 nx_2) ∧
  (¬ x_3 = 0 →
  P_14 x3 hp_1 nx_2)))) ∧ ((ci_8 = 16 → zMt l g yX16_takes cX16_takes 5 (some .boolean) d 0 0 (.ref a_7 :: [.double x1, .double x3]) hp nx (zQi g PP_10)) ∧ (ci_8 = 17 → zMt l g yX17_takes cX17_takes 5 (some .boolean) d 0 0 (.ref a_7 :: [.double x1, .double x3]) hp nx (zQi g PP_10))))
set_option maxHeartbeats 40000000 in
theorem met_X16_joined {l : Launch} {g : zG} {d : Nat} {h0 : Nat} {x1 : UInt64} {x3 : UInt64} {hp : zHp} {nx : Nat} {Post : UInt64 → zHp → Nat → Prop} (hw : wp_X16_joined l g d h0 x1 x3 hp nx Post) : zMt l g yX16_joined cX16_joined 5 (some .double) (d + 1) 0 0 [.ref h0, .double x1, .double x3] hp nx (zQd g Post) := by
  refine z_start (by decide) (Nat.le_of_ble_eq_true rfl) ?_
  intro p e s m below meth c hk hr hin hH hz ls hl
  have hx := hk.1.1
  have hb := hk.1.2.1
  have hown := hk.1.2.2.2.1
  have hts := hk.1.2.2.2.2
  have hS : va_S (zAd g) s.heap s.heap [] := va_S.rf
  have hl : lv_has ls 5 [(0, va_rf (some h0)), (1, .double x1), (3, .double x3)] := hl
  unfold wp_X16_joined at hw
  refine zr_aload_n (r := some h0) hx hb dX16_joined_0 rfl (lv_at hl 0 rfl) ?_
  refine lv_dload_n hx hb dX16_joined_1 rfl (lv_at hl 1 rfl) ?_
  refine lv_dload_n hx hb dX16_joined_2 rfl (lv_at hl 2 rfl) ?_
  obtain ⟨a_7, ci_8, fs_9, er, he, hc, PP_10, hPP, hw⟩ := zo_e hw
  have hC : ∀ (x_3 : Int32) (hp_1 : zHp) (nx_2 : Nat), PP_10 x_3 hp_1 nx_2 → ∀ (H : Heap) (locs : List Loc), zHd g hp_1 H → H.size = nx_2 → va_S (zAd g) s.heap H locs → W p l e (zrm (d + 1) 0 0) s m ([.ref h0, .double x1, .double x3] : List Value).toArray below meth c H locs (0 + 0) (0 + 0) (MQ below (zQd g Post) ([.ref h0, .double x1, .double x3] : List Value).toArray s 0 0 (zAd g)) (F0 m 6 ls [.int x_3]) := by
    intro x_3 hp_1 nx_2 hw H locs hH hz hS
    have hw := hPP x_3 hp_1 nx_2 hw
    obtain ⟨P_14, hP_14, hw⟩ := hw
    have hJ_14 : ∀ (x_4 : UInt64) (hp_5 : zHp) (nx_6 : Nat) (H : Heap) (locs : List Loc) (ls : Array Slot), P_14 x_4 hp_5 nx_6 → lv_has ls 5 [(0, va_rf (some h0)), (1, .double x1), (3, .double x3)] → zHd g hp_5 H → H.size = nx_6 → va_S (zAd g) s.heap H locs → W p l e (zrm (d + 1) 0 0) s m ([.ref h0, .double x1, .double x3] : List Value).toArray below meth c H locs 0 0 (MQ below (zQd g Post) ([.ref h0, .double x1, .double x3] : List Value).toArray s 0 0 (zAd g)) (F0 m 14 ls [.double x_4]) := by
      intro x_4 hp_5 nx_6 H locs ls hw hl hH hz hS
      have hw := hP_14 x_4 hp_5 nx_6 hw
      exact zr_dret hk hr hH hz hS hw (Nat.le_of_ble_eq_true rfl) (Nat.le_of_ble_eq_true rfl) dX16_joined_14
    refine lv_if_eq (tgt := 13) hx hb dX16_joined_6 (by decide) (fun hc => ?_) (fun hc => ?_)
    · have hw := hw.1 hc
      refine lv_dload_n hx hb dX16_joined_13 rfl (lv_at hl 1 rfl) ?_
      exact hJ_14 x1 hp_1 nx_2 _ _ _ hw hl hH hz hS
    · have hw := hw.2 hc
      refine lv_dload_n hx hb dX16_joined_9 rfl (lv_at hl 2 rfl) ?_
      refine lv_goto (tgt := 14) hx hb dX16_joined_10 (by decide) ?_
      exact hJ_14 x3 hp_1 nx_2 _ _ _ hw hl hH hz hS
  simp only [List.mem_cons, List.not_mem_nil, or_false] at hc
  rcases hc with rfl | rfl
  · exact zr_calli (zw_runV (As := [.double x1, .double x3]) hk hH hz hS hl.1 er (hw.1 rfl) (cwV 2 hts (lw_V q2269 q2270 q2271 q179 q2277) rfl rfl rfl (by decide +kernel) (z_room (Nat.le_of_ble_eq_true rfl))) he rfl rfl rfl (Nat.le_of_ble_eq_true rfl) dX16_joined_3 ⟨Nat.le_of_ble_eq_true rfl, Nat.le_of_ble_eq_true rfl⟩) hS hC
  · exact zr_calli (zw_runU (As := [.double x1, .double x3]) hk hH hz hS hl.1 er (hw.2 rfl) (va_cwO 2 hts (z_O q2269 q2272 q2270 q2273 q2274 q180 q2275) rfl rfl rfl q2277 (by decide +kernel) (z_room (Nat.le_of_ble_eq_true rfl))) he rfl rfl rfl (Nat.le_of_ble_eq_true rfl) dX16_joined_3 ⟨Nat.le_of_ble_eq_true rfl, Nat.le_of_ble_eq_true rfl⟩) hS hC
def wp_X16_takes (l : Launch) (g : zG) (d : Nat) (h0 : Nat) (x1 : UInt64) (x3 : UInt64) (hp : zHp) (nx : Nat) (Post : Int32 → zHp → Nat → Prop) : Prop :=
  (∃ P_11 : Int32 → Prop, (∀ (x_1 : Int32), P_11 x_1 →
  (((x_1 = 0 ∨ x_1 = 1) ∧ Post x_1 hp nx))) ∧
  ((0 ≤ (Op.cmpValue (FP.dcmp x3 x1) .g) →
  P_11 (0 : Int32)) ∧
  (¬ 0 ≤ (Op.cmpValue (FP.dcmp x3 x1) .g) →
  P_11 (1 : Int32))))
set_option maxHeartbeats 40000000 in
theorem met_X16_takes {l : Launch} {g : zG} {d : Nat} {h0 : Nat} {x1 : UInt64} {x3 : UInt64} {hp : zHp} {nx : Nat} {Post : Int32 → zHp → Nat → Prop} (hw : wp_X16_takes l g d h0 x1 x3 hp nx Post) : zMt l g yX16_takes cX16_takes 5 (some .boolean) (d + 1) 0 0 [.ref h0, .double x1, .double x3] hp nx (zQi g Post) := by
  refine z_start (by decide) (Nat.le_of_ble_eq_true rfl) ?_
  intro p e s m below meth c hk hr hin hH hz ls hl
  have hx := hk.1.1
  have hb := hk.1.2.1
  have hown := hk.1.2.2.2.1
  have hts := hk.1.2.2.2.2
  have hS : va_S (zAd g) s.heap s.heap [] := va_S.rf
  have hl : lv_has ls 5 [(0, va_rf (some h0)), (1, .double x1), (3, .double x3)] := hl
  unfold wp_X16_takes at hw
  refine lv_dload_n hx hb dX16_takes_0 rfl (lv_at hl 2 rfl) ?_
  refine lv_dload_n hx hb dX16_takes_1 rfl (lv_at hl 1 rfl) ?_
  refine lv_dcmp hx hb dX16_takes_2 ?_
  obtain ⟨P_11, hP_11, hw⟩ := hw
  have hJ_11 : ∀ (x_1 : Int32) (H : Heap) (locs : List Loc) (ls : Array Slot), P_11 x_1 → lv_has ls 5 [(0, va_rf (some h0)), (1, .double x1), (3, .double x3)] → zHd g hp H → H.size = nx → va_S (zAd g) s.heap H locs → W p l e (zrm (d + 1) 0 0) s m ([.ref h0, .double x1, .double x3] : List Value).toArray below meth c H locs 0 0 (MQ below (zQi g Post) ([.ref h0, .double x1, .double x3] : List Value).toArray s 0 0 (zAd g)) (F0 m 11 ls [.int x_1]) := by
    intro x_1 H locs ls hw hl hH hz hS
    have hw := hP_11 x_1 hw
    exact zr_zret hk hr hH hz hS hw.1 hw.2 (Nat.le_of_ble_eq_true rfl) (Nat.le_of_ble_eq_true rfl) dX16_takes_11
  refine lv_if_ge (tgt := 10) hx hb dX16_takes_3 (by decide) (fun hc => ?_) (fun hc => ?_)
  · have hw := hw.1 hc
    refine lv_iconst (v := (0 : Int32)) hx hb dX16_takes_10 (by decide) ?_
    exact hJ_11 (0 : Int32) _ _ _ hw hl hH hz hS
  · have hw := hw.2 hc
    refine lv_iconst (v := (1 : Int32)) hx hb dX16_takes_6 (by decide) ?_
    refine lv_goto (tgt := 11) hx hb dX16_takes_7 (by decide) ?_
    exact hJ_11 (1 : Int32) _ _ _ hw hl hH hz hS
theorem ff_X17_1 {ci : Nat} (h : ci ∈ [17]) : zFf "WhatIfSheet$Greater" 1 ci 5 (.object "WhatIfSheet") := by
  simp only [List.mem_cons, List.not_mem_nil, or_false] at h
  rcases h with rfl
  · exact ⟨RX17, TX17, 6, rfl, by decide, q1629, rfl, rfl, by decide +kernel⟩
def wp_X17_init (l : Launch) (g : zG) (d : Nat) (h0 : Nat) (r1 : Option Nat) (r2 : Option Nat) (r3 : Option Nat) (hp : zHp) (nx : Nat) (Post : zHp → Nat → Prop) : Prop :=
  (zpt g hp (some h0) [17] 5 (va_rf r1) fun hp_4 =>
  (zMt l g yX16_init cX16_init 4 none d 0 0 (.ref h0 :: [va_rf r1, va_rf r2, va_rf r3]) hp_4 nx (zQv g fun hp_5 nx_6 =>
  (Post hp_5 nx_6))))
set_option maxHeartbeats 40000000 in
theorem met_X17_init {l : Launch} {g : zG} {d : Nat} {h0 : Nat} {r1 : Option Nat} {r2 : Option Nat} {r3 : Option Nat} {hp : zHp} {nx : Nat} {Post : zHp → Nat → Prop} (hw : wp_X17_init l g d h0 r1 r2 r3 hp nx Post) : zMt l g yX17_init cX17_init 4 none (d + 1) 0 0 [.ref h0, va_rf r1, va_rf r2, va_rf r3] hp nx (zQv g Post) := by
  refine z_start (by decide) (by cases r1 <;> cases r2 <;> cases r3 <;> exact Nat.le_of_ble_eq_true rfl) ?_
  intro p e s m below meth c hk hr hin hH hz ls hl
  have hx := hk.1.1
  have hb := hk.1.2.1
  have hown := hk.1.2.2.2.1
  have hts := hk.1.2.2.2.2
  have hS : va_S (zAd g) s.heap s.heap [] := va_S.rf
  have hl : lv_has ls 4 [(0, va_rf (some h0)), (1, va_rf r1), (2, va_rf r2), (3, va_rf r3)] := by cases r1 <;> cases r2 <;> cases r3 <;> exact hl
  unfold wp_X17_init at hw
  refine zr_aload_n (r := some h0) hx hb dX17_init_0 rfl (lv_at hl 0 rfl) ?_
  refine zr_aload_n (r := r1) hx hb dX17_init_1 rfl (lv_at hl 1 rfl) ?_
  obtain ⟨a_1, ci_2, fs_3, hp_4, er, he, hc, hA, hkl, eh, hw⟩ := zpt_e hw
  refine zw_putF hk hin hH hz hS er he hA hkl eh (ff_X17_1 hc) (z_narR _ _) (z_fitR _ _) dX17_init_2 (fun H locs hH hz hS => ?_)
  refine zr_aload_n (r := some h0) hx hb dX17_init_5 rfl (lv_at hl 0 rfl) ?_
  refine zr_aload_n (r := r1) hx hb dX17_init_6 rfl (lv_at hl 1 rfl) ?_
  refine zr_aload_n (r := r2) hx hb dX17_init_7 rfl (lv_at hl 2 rfl) ?_
  refine zr_aload_n (r := r3) hx hb dX17_init_8 rfl (lv_at hl 3 rfl) ?_
  refine zr_callv (zw_runI (As := [va_rf r1, va_rf r2, va_rf r3]) (r := some h0) hk hH hz hS hl.1 rfl hw (cwI 3 hts (lw_meth q1604) rfl rfl rfl (hts _ q179) (hts _ q1628) (hts _ q1603) rfl (by decide +kernel) (z_room (Nat.le_of_ble_eq_true rfl))) rfl rfl (Nat.le_of_ble_eq_true rfl) dX17_init_9 ⟨Nat.le_of_ble_eq_true rfl, Nat.le_of_ble_eq_true rfl⟩) hS (fun hp_5 nx_6 hw H locs hH hz hS => ?_)
  exact zr_vret hk hr hH hz hS hw (Nat.le_of_ble_eq_true rfl) (Nat.le_of_ble_eq_true rfl) dX17_init_12
theorem cz_17 {ci : Nat} (h : ci ∈ [17]) : ∃ (C : String) (T : u_T) (N : Nat), zcl[ci]? = some (C, T, N) := by
  simp only [List.mem_cons, List.not_mem_nil, or_false] at h
  rcases h with rfl <;> exact ⟨_, _, _, rfl⟩
def wp_X17_takes (l : Launch) (g : zG) (d : Nat) (h0 : Nat) (x1 : UInt64) (x3 : UInt64) (hp : zHp) (nx : Nat) (Post : Int32 → zHp → Nat → Prop) : Prop :=
  (∃ P_20 : Int32 → zHp → Nat → Prop, (∀ (x_1 : Int32) (hp_2 : zHp) (nx_3 : Nat), P_20 x_1 hp_2 nx_3 →
  (((x_1 = 0 ∨ x_1 = 1) ∧ Post x_1 hp_2 nx_3))) ∧
  (∃ P_19 : zHp → Nat → Prop, (∀ (hp_4 : zHp) (nx_5 : Nat), P_19 hp_4 nx_5 →
  P_20 (0 : Int32) hp_4 nx_5) ∧
  (((Op.cmpValue (FP.dcmp x1 x3) .l) = 0 →
  P_19 hp nx) ∧
  (¬ (Op.cmpValue (FP.dcmp x1 x3) .l) = 0 →
  (zo hp (some h0) [17] fun a_9 ci_10 fs_11 => zMt l g yX16_takes cX16_takes 5 (some .boolean) d 0 0 (.ref a_9 :: [.double x1, .double x3]) hp nx (zQi g fun x_8 hp_6 nx_7 =>
  ((x_8 = 0 →
  P_20 (1 : Int32) hp_6 nx_7) ∧
  (¬ x_8 = 0 →
  P_19 hp_6 nx_7))))))))
set_option maxHeartbeats 40000000 in
theorem met_X17_takes {l : Launch} {g : zG} {d : Nat} {h0 : Nat} {x1 : UInt64} {x3 : UInt64} {hp : zHp} {nx : Nat} {Post : Int32 → zHp → Nat → Prop} (hw : wp_X17_takes l g d h0 x1 x3 hp nx Post) : zMt l g yX17_takes cX17_takes 5 (some .boolean) (d + 1) 0 0 [.ref h0, .double x1, .double x3] hp nx (zQi g Post) := by
  refine z_start (by decide) (Nat.le_of_ble_eq_true rfl) ?_
  intro p e s m below meth c hk hr hin hH hz ls hl
  have hx := hk.1.1
  have hb := hk.1.2.1
  have hown := hk.1.2.2.2.1
  have hts := hk.1.2.2.2.2
  have hS : va_S (zAd g) s.heap s.heap [] := va_S.rf
  have hl : lv_has ls 5 [(0, va_rf (some h0)), (1, .double x1), (3, .double x3)] := hl
  unfold wp_X17_takes at hw
  refine lv_dload_n hx hb dX17_takes_0 rfl (lv_at hl 1 rfl) ?_
  refine lv_dload_n hx hb dX17_takes_1 rfl (lv_at hl 2 rfl) ?_
  refine lv_dcmp hx hb dX17_takes_2 ?_
  obtain ⟨P_20, hP_20, hw⟩ := hw
  have hJ_20 : ∀ (x_1 : Int32) (hp_2 : zHp) (nx_3 : Nat) (H : Heap) (locs : List Loc) (ls : Array Slot), P_20 x_1 hp_2 nx_3 → lv_has ls 5 [(0, va_rf (some h0)), (1, .double x1), (3, .double x3)] → zHd g hp_2 H → H.size = nx_3 → va_S (zAd g) s.heap H locs → W p l e (zrm (d + 1) 0 0) s m ([.ref h0, .double x1, .double x3] : List Value).toArray below meth c H locs 0 0 (MQ below (zQi g Post) ([.ref h0, .double x1, .double x3] : List Value).toArray s 0 0 (zAd g)) (F0 m 20 ls [.int x_1]) := by
    intro x_1 hp_2 nx_3 H locs ls hw hl hH hz hS
    have hw := hP_20 x_1 hp_2 nx_3 hw
    exact zr_zret hk hr hH hz hS hw.1 hw.2 (Nat.le_of_ble_eq_true rfl) (Nat.le_of_ble_eq_true rfl) dX17_takes_20
  obtain ⟨P_19, hP_19, hw⟩ := hw
  have hJ_19 : ∀ (hp_4 : zHp) (nx_5 : Nat) (H : Heap) (locs : List Loc) (ls : Array Slot), P_19 hp_4 nx_5 → lv_has ls 5 [(0, va_rf (some h0)), (1, .double x1), (3, .double x3)] → zHd g hp_4 H → H.size = nx_5 → va_S (zAd g) s.heap H locs → W p l e (zrm (d + 1) 0 0) s m ([.ref h0, .double x1, .double x3] : List Value).toArray below meth c H locs 0 0 (MQ below (zQi g Post) ([.ref h0, .double x1, .double x3] : List Value).toArray s 0 0 (zAd g)) (F0 m 19 ls []) := by
    intro hp_4 nx_5 H locs ls hw hl hH hz hS
    have hw := hP_19 hp_4 nx_5 hw
    refine lv_iconst (v := (0 : Int32)) hx hb dX17_takes_19 (by decide) ?_
    exact hJ_20 (0 : Int32) hp_4 nx_5 _ _ _ hw hl hH hz hS
  refine lv_if_eq (tgt := 19) hx hb dX17_takes_3 (by decide) (fun hc => ?_) (fun hc => ?_)
  · have hw := hw.1 hc
    exact hJ_19 hp nx _ _ _ hw hl hH hz hS
  · have hw := hw.2 hc
    refine zr_aload_n (r := some h0) hx hb dX17_takes_6 rfl (lv_at hl 0 rfl) ?_
    refine lv_dload_n hx hb dX17_takes_7 rfl (lv_at hl 1 rfl) ?_
    refine lv_dload_n hx hb dX17_takes_8 rfl (lv_at hl 2 rfl) ?_
    obtain ⟨a_9, ci_10, fs_11, er, he, hc, hw⟩ := zo_e hw
    obtain ⟨C_, T_, N_, hcl_⟩ := cz_17 hc
    refine zr_calli (zw_runSU (C := C_) (As := [.double x1, .double x3]) hk hH hz hS hl.1 er hw (va_cwSU 2 hts (z_SU q2276 q2272 q1637 q2270 q179 q2277) rfl rfl rfl (by decide +kernel) (z_room (Nat.le_of_ble_eq_true rfl))) he hcl_ rfl rfl (Nat.le_of_ble_eq_true rfl) dX17_takes_9 ⟨Nat.le_of_ble_eq_true rfl, Nat.le_of_ble_eq_true rfl⟩) hS (fun x_8 hp_6 nx_7 hw H locs hH hz hS => ?_)
    refine lv_if_ne (tgt := 19) hx hb dX17_takes_12 (by decide) (fun hc => ?_) (fun hc => ?_)
    · have hw := hw.2 hc
      exact hJ_19 hp_6 nx_7 _ _ _ hw hl hH hz hS
    · have hw := hw.1 hc
      refine lv_iconst (v := (1 : Int32)) hx hb dX17_takes_15 (by decide) ?_
      refine lv_goto (tgt := 20) hx hb dX17_takes_16 (by decide) ?_
      exact hJ_20 (1 : Int32) hp_6 nx_7 _ _ _ hw hl hH hz hS
theorem ff_X18_3 {ci : Nat} (h : ci ∈ [18, 19, 20, 21, 22]) : zFf "WhatIfSheet$Asked" 3 ci 2 (.object "WhatIfSheet") := by
  simp only [List.mem_cons, List.not_mem_nil, or_false] at h
  rcases h with rfl | rfl | rfl | rfl | rfl
  · exact ⟨RX18, TX18, 3, rfl, by decide, q1739, rfl, rfl, by decide +kernel⟩
  · exact ⟨RX19, TX19, 4, rfl, by decide, q1739, rfl, rfl, by decide +kernel⟩
  · exact ⟨RX20, TX20, 5, rfl, by decide, q1739, rfl, rfl, by decide +kernel⟩
  · exact ⟨RX21, TX21, 6, rfl, by decide, q1739, rfl, rfl, by decide +kernel⟩
  · exact ⟨RX22, TX22, 4, rfl, by decide, q1739, rfl, rfl, by decide +kernel⟩
theorem ff_X18_15 {ci : Nat} (h : ci ∈ [18, 19, 20, 21, 22]) : zFf "WhatIfSheet$Asked" 15 ci 1 .int := by
  simp only [List.mem_cons, List.not_mem_nil, or_false] at h
  rcases h with rfl | rfl | rfl | rfl | rfl
  · exact ⟨RX18, TX18, 3, rfl, by decide, q1732, rfl, rfl, by decide +kernel⟩
  · exact ⟨RX19, TX19, 4, rfl, by decide, q1732, rfl, rfl, by decide +kernel⟩
  · exact ⟨RX20, TX20, 5, rfl, by decide, q1732, rfl, rfl, by decide +kernel⟩
  · exact ⟨RX21, TX21, 6, rfl, by decide, q1732, rfl, rfl, by decide +kernel⟩
  · exact ⟨RX22, TX22, 4, rfl, by decide, q1732, rfl, rfl, by decide +kernel⟩
def wp_X18_init (l : Launch) (g : zG) (d : Nat) (h0 : Nat) (r1 : Option Nat) (x2 : Int32) (hp : zHp) (nx : Nat) (Post : zHp → Nat → Prop) : Prop :=
  (zpt g hp (some h0) [18, 19, 20, 21, 22] 2 (va_rf r1) fun hp_4 =>
  (zMt l g yX13_init cX13_init 2 none d 0 0 (.ref h0 :: [va_rf r1]) hp_4 nx (zQv g fun hp_5 nx_6 =>
  (zpt g hp_5 (some h0) [18, 19, 20, 21, 22] 1 (.int x2) fun hp_10 =>
  (Post hp_10 nx_6)))))
set_option maxHeartbeats 40000000 in
theorem met_X18_init {l : Launch} {g : zG} {d : Nat} {h0 : Nat} {r1 : Option Nat} {x2 : Int32} {hp : zHp} {nx : Nat} {Post : zHp → Nat → Prop} (hw : wp_X18_init l g d h0 r1 x2 hp nx Post) : zMt l g yX18_init cX18_init 3 none (d + 1) 0 0 [.ref h0, va_rf r1, .int x2] hp nx (zQv g Post) := by
  refine z_start (by decide) (by cases r1 <;> exact Nat.le_of_ble_eq_true rfl) ?_
  intro p e s m below meth c hk hr hin hH hz ls hl
  have hx := hk.1.1
  have hb := hk.1.2.1
  have hown := hk.1.2.2.2.1
  have hts := hk.1.2.2.2.2
  have hS : va_S (zAd g) s.heap s.heap [] := va_S.rf
  have hl : lv_has ls 3 [(0, va_rf (some h0)), (1, va_rf r1), (2, .int x2)] := by cases r1 <;> exact hl
  unfold wp_X18_init at hw
  refine zr_aload_n (r := some h0) hx hb dX18_init_0 rfl (lv_at hl 0 rfl) ?_
  refine zr_aload_n (r := r1) hx hb dX18_init_1 rfl (lv_at hl 1 rfl) ?_
  obtain ⟨a_1, ci_2, fs_3, hp_4, er, he, hc, hA, hkl, eh, hw⟩ := zpt_e hw
  refine zw_putF hk hin hH hz hS er he hA hkl eh (ff_X18_3 hc) (z_narR _ _) (z_fitR _ _) dX18_init_2 (fun H locs hH hz hS => ?_)
  refine zr_aload_n (r := some h0) hx hb dX18_init_5 rfl (lv_at hl 0 rfl) ?_
  refine zr_aload_n (r := r1) hx hb dX18_init_6 rfl (lv_at hl 1 rfl) ?_
  refine zr_callv (zw_runIN (As := [va_rf r1]) (r := some h0) hk hH hz hS hl.1 rfl hw ⟨va_cnB 1 hts (lw_meth q1576) rfl rfl rfl (hk.2.2.1.1 _ q1731 rfl) (hts _ q176) (by decide +kernel) (z_room (Nat.le_of_ble_eq_true rfl)), rfl, hts _ q1575⟩ rfl rfl (Nat.le_of_ble_eq_true rfl) dX18_init_7 ⟨Nat.le_of_ble_eq_true rfl, Nat.le_of_ble_eq_true rfl⟩) hS (fun hp_5 nx_6 hw H locs hH hz hS => ?_)
  refine zr_aload_n (r := some h0) hx hb dX18_init_10 rfl (lv_at hl 0 rfl) ?_
  refine lv_iload_n hx hb dX18_init_11 rfl (lv_at hl 2 rfl) ?_
  obtain ⟨a_7, ci_8, fs_9, hp_10, er, he, hc, hA, hkl, eh, hw⟩ := zpt_e hw
  refine zw_putF hk hin hH hz hS er he hA hkl eh (ff_X18_15 hc) rfl rfl dX18_init_12 (fun H locs hH hz hS => ?_)
  exact zr_vret hk hr hH hz hS hw (Nat.le_of_ble_eq_true rfl) (Nat.le_of_ble_eq_true rfl) dX18_init_15
theorem fk_X18_3 {ci : Nat} (h : ci ∈ [18, 19, 20, 21, 22]) : zFk "WhatIfSheet$Asked" 3 ci 2 := by
  simp only [List.mem_cons, List.not_mem_nil, or_false] at h
  rcases h with rfl | rfl | rfl | rfl | rfl
  · exact ⟨RX18, TX18, 3, rfl, by decide, q1739⟩
  · exact ⟨RX19, TX19, 4, rfl, by decide, q1739⟩
  · exact ⟨RX20, TX20, 5, rfl, by decide, q1739⟩
  · exact ⟨RX21, TX21, 6, rfl, by decide, q1739⟩
  · exact ⟨RX22, TX22, 4, rfl, by decide, q1739⟩
theorem fn_X18_23 {ci : Nat} (h : ci ∈ [0]) : zFkN "WhatIfSheet$Asked" 23 ci 1 := by
  simp only [List.mem_cons, List.not_mem_nil, or_false] at h
  rcases h with rfl
  · exact ⟨RX0, TX0, 30, "WhatIfSheet", rfl, by decide, q1204⟩
theorem fk_X18_15 {ci : Nat} (h : ci ∈ [18, 19, 20, 21, 22]) : zFk "WhatIfSheet$Asked" 15 ci 1 := by
  simp only [List.mem_cons, List.not_mem_nil, or_false] at h
  rcases h with rfl | rfl | rfl | rfl | rfl
  · exact ⟨RX18, TX18, 3, rfl, by decide, q1732⟩
  · exact ⟨RX19, TX19, 4, rfl, by decide, q1732⟩
  · exact ⟨RX20, TX20, 5, rfl, by decide, q1732⟩
  · exact ⟨RX21, TX21, 6, rfl, by decide, q1732⟩
  · exact ⟨RX22, TX22, 4, rfl, by decide, q1732⟩
def wp_X18_worth (l : Launch) (g : zG) (d : Nat) (h0 : Nat) (hp : zHp) (nx : Nat) (Post : UInt64 → zHp → Nat → Prop) : Prop :=
  (zgR hp (some h0) [18, 19, 20, 21, 22] 2 fun r_4 =>
  (zgR hp r_4 [0] 1 fun r_8 =>
  (zgI hp (some h0) [18, 19, 20, 21, 22] 1 fun x_12 =>
  (zaR (g.2.1 8) hp r_8 fun a_13 n_14 f_15 => vp_in x_12 n_14 ∧ ∀ r_16 : Option Nat, r_16 = f_15 x_12.toNatClampNeg →
  ((r_16 = none →
  (zgR hp (some h0) [18, 19, 20, 21, 22] 2 fun r_36 =>
  (zo hp r_36 [0] fun a_39 ci_40 fs_41 => zMt l g yX0_faults cX0_faults 2 none d 0 0 (.ref a_39 :: [.int (4 : Int32)]) hp nx (zQv g fun hp_37 nx_38 =>
  (Post FP.dconst0 hp_37 nx_38))))) ∧
  (¬ r_16 = none →
  (zgR hp (some h0) [18, 19, 20, 21, 22] 2 fun r_20 =>
  (zo hp r_20 [0] fun a_30 ci_31 fs_32 => zMt l g yX0_runsAll cX0_runsAll 2 none d 0 0 (.ref a_30 :: [va_rf r_16]) hp nx (zQv g fun hp_21 nx_22 =>
  (zo hp_21 (some h0) [18, 19, 20, 21, 22] fun a_26 ci_27 fs_28 => ∃ PP_29 : UInt64 → zHp → Nat → Prop, (∀ (x_25 : UInt64) (hp_23 : zHp) (nx_24 : Nat), PP_29 x_25 hp_23 nx_24 →
  (Post x_25 hp_23 nx_24)) ∧ ((ci_27 = 18 → zMt l g yX18_of cX18_of 2 (some .double) d 0 0 (.ref a_26 :: [va_rf r_16]) hp_21 nx_22 (zQd g PP_29)) ∧ (ci_27 = 19 → zMt l g yX19_of cX19_of 5 (some .double) d 0 0 (.ref a_26 :: [va_rf r_16]) hp_21 nx_22 (zQd g PP_29)) ∧ (ci_27 = 20 → zMt l g yX20_of cX20_of 2 (some .double) d 0 0 (.ref a_26 :: [va_rf r_16]) hp_21 nx_22 (zQd g PP_29)) ∧ (ci_27 = 21 → zMt l g yX20_of cX20_of 2 (some .double) d 0 0 (.ref a_26 :: [va_rf r_16]) hp_21 nx_22 (zQd g PP_29)) ∧ (ci_27 = 22 → zMt l g yX22_of cX22_of 4 (some .double) d 0 0 (.ref a_26 :: [va_rf r_16]) hp_21 nx_22 (zQd g PP_29)))))))))))))
set_option maxHeartbeats 40000000 in
theorem met_X18_worth {l : Launch} {g : zG} {d : Nat} {h0 : Nat} {hp : zHp} {nx : Nat} {Post : UInt64 → zHp → Nat → Prop} (hw : wp_X18_worth l g d h0 hp nx Post) : zMt l g yX18_worth cX18_worth 2 (some .double) (d + 1) 0 0 [.ref h0] hp nx (zQd g Post) := by
  refine z_start (by decide) (Nat.le_of_ble_eq_true rfl) ?_
  intro p e s m below meth c hk hr hin hH hz ls hl
  have hx := hk.1.1
  have hb := hk.1.2.1
  have hown := hk.1.2.2.2.1
  have hts := hk.1.2.2.2.2
  have hS : va_S (zAd g) s.heap s.heap [] := va_S.rf
  have hl : lv_has ls 2 [(0, va_rf (some h0))] := hl
  unfold wp_X18_worth at hw
  refine zr_aload_n (r := some h0) hx hb dX18_worth_0 rfl (lv_at hl 0 rfl) ?_
  obtain ⟨a_1, ci_2, fs_3, r_4, er, he, hc, hv, hw⟩ := zgR_e hw
  refine zw_get hk hH er he hv (fk_X18_3 hc) dX18_worth_1 ?_
  obtain ⟨a_5, ci_6, fs_7, r_8, er, he, hc, hv, hw⟩ := zgR_e hw
  refine zw_getN hk hH er he hv (fn_X18_23 hc) dX18_worth_4 ?_
  refine zr_aload_n (r := some h0) hx hb dX18_worth_7 rfl (lv_at hl 0 rfl) ?_
  obtain ⟨a_9, ci_10, fs_11, x_12, er, he, hc, hv, hw⟩ := zgI_e hw
  refine zw_get hk hH er he hv (fk_X18_15 hc) dX18_worth_8 ?_
  obtain ⟨a_13, n_14, f_15, er, he, hi, hw⟩ := zaR_e hw
  have hw := hw _ rfl
  refine zw_aald hk hH 8 er he rfl rfl hi dX18_worth_11 ?_
  generalize f_15 x_12.toNatClampNeg = r_16 at hw ⊢
  refine zr_astore_n (r := r_16) (i := 1) (lv' := [(1, va_rf r_16), (0, va_rf (some h0))]) hx hb dX18_worth_12 rfl hl (by decide) (by first | rfl | simp [List.filter_cons, z_cat, z_catI, z_catJ, z_catF, z_catD]) (fun ls hl => ?_)
  refine zr_aload_n (r := r_16) hx hb dX18_worth_13 rfl (lv_at hl 0 rfl) ?_
  refine zr_ifnonnull (r := r_16) (tgt := 27) hx hb dX18_worth_14 (by decide) (fun hc => ?_) (fun hc => ?_)
  · have hw := hw.2 hc
    refine zr_aload_n (r := some h0) hx hb dX18_worth_27 rfl (lv_at hl 1 rfl) ?_
    obtain ⟨a_17, ci_18, fs_19, r_20, er, he, hc, hv, hw⟩ := zgR_e hw
    refine zw_get hk hH er he hv (fk_X18_3 hc) dX18_worth_28 ?_
    refine zr_aload_n (r := r_16) hx hb dX18_worth_31 rfl (lv_at hl 0 rfl) ?_
    obtain ⟨a_30, ci_31, fs_32, er, he, hc, hw⟩ := zo_e hw
    obtain rfl := List.mem_singleton.mp hc
    refine zr_callv (zw_runVN (As := [va_rf r_16]) hk hH hz hS hl.1 er hw ⟨va_cnB 1 hts (lw_meth q2157) rfl rfl rfl (hk.2.2.1.1 _ q2154 rfl) (hts _ q131) (by decide +kernel) (z_room (Nat.le_of_ble_eq_true rfl)), hts _ q2156, hts _ qs45⟩ he rfl rfl rfl (Nat.le_of_ble_eq_true rfl) dX18_worth_32 ⟨Nat.le_of_ble_eq_true rfl, Nat.le_of_ble_eq_true rfl⟩) hS (fun hp_21 nx_22 hw H locs hH hz hS => ?_)
    refine zr_aload_n (r := some h0) hx hb dX18_worth_35 rfl (lv_at hl 1 rfl) ?_
    refine zr_aload_n (r := r_16) hx hb dX18_worth_36 rfl (lv_at hl 0 rfl) ?_
    obtain ⟨a_26, ci_27, fs_28, er, he, hc, PP_29, hPP, hw⟩ := zo_e hw
    have hC : ∀ (x_25 : UInt64) (hp_23 : zHp) (nx_24 : Nat), PP_29 x_25 hp_23 nx_24 → ∀ (H : Heap) (locs : List Loc), zHd g hp_23 H → H.size = nx_24 → va_S (zAd g) s.heap H locs → W p l e (zrm (d + 1) 0 0) s m ([.ref h0] : List Value).toArray below meth c H locs (0 + 0) (0 + 0) (MQ below (zQd g Post) ([.ref h0] : List Value).toArray s 0 0 (zAd g)) (F0 m 40 ls [.double x_25]) := by
      intro x_25 hp_23 nx_24 hw H locs hH hz hS
      have hw := hPP x_25 hp_23 nx_24 hw
      exact zr_dret hk hr hH hz hS hw (Nat.le_of_ble_eq_true rfl) (Nat.le_of_ble_eq_true rfl) dX18_worth_40
    simp only [List.mem_cons, List.not_mem_nil, or_false] at hc
    rcases hc with rfl | rfl | rfl | rfl | rfl
    · exact zr_calld (zw_runV (As := [va_rf r_16]) hk hH hz hS hl.1 er (hw.1 rfl) (cwV 1 hts (lw_V q2176 q2177 q2178 q182 q2218) rfl rfl rfl (by decide +kernel) (z_room (Nat.le_of_ble_eq_true rfl))) he rfl rfl rfl (Nat.le_of_ble_eq_true rfl) dX18_worth_37 ⟨Nat.le_of_ble_eq_true rfl, Nat.le_of_ble_eq_true rfl⟩) hS hC
    · exact zr_calld (zw_runU (As := [va_rf r_16]) hk hH hz hS hl.1 er (hw.2.1 rfl) (va_cwO 1 hts (z_O q2176 q2179 q2177 q2212 q2213 q183 q2214) rfl rfl rfl q2218 (by decide +kernel) (z_room (Nat.le_of_ble_eq_true rfl))) he rfl rfl rfl (Nat.le_of_ble_eq_true rfl) dX18_worth_37 ⟨Nat.le_of_ble_eq_true rfl, Nat.le_of_ble_eq_true rfl⟩) hS hC
    · exact zr_calld (zw_runU (As := [va_rf r_16]) hk hH hz hS hl.1 er (hw.2.2.1 rfl) (va_cwO 1 hts (z_O q2176 q2179 q2177 q2184 q2185 q184 q2186) rfl rfl rfl q2218 (by decide +kernel) (z_room (Nat.le_of_ble_eq_true rfl))) he rfl rfl rfl (Nat.le_of_ble_eq_true rfl) dX18_worth_37 ⟨Nat.le_of_ble_eq_true rfl, Nat.le_of_ble_eq_true rfl⟩) hS hC
    · exact zr_calld (zw_runU (As := [va_rf r_16]) hk hH hz hS hl.1 er (hw.2.2.2.1 rfl) (va_cwO 1 hts (z_O q2176 q2179 q2177 q2217 q2185 q184 q2186) rfl rfl rfl q2218 (by decide +kernel) (z_room (Nat.le_of_ble_eq_true rfl))) he rfl rfl rfl (Nat.le_of_ble_eq_true rfl) dX18_worth_37 ⟨Nat.le_of_ble_eq_true rfl, Nat.le_of_ble_eq_true rfl⟩) hS hC
    · exact zr_calld (zw_runU (As := [va_rf r_16]) hk hH hz hS hl.1 er (hw.2.2.2.2 rfl) (va_cwO 1 hts (z_O q2176 q2179 q2177 q2180 q2181 q186 q2182) rfl rfl rfl q2218 (by decide +kernel) (z_room (Nat.le_of_ble_eq_true rfl))) he rfl rfl rfl (Nat.le_of_ble_eq_true rfl) dX18_worth_37 ⟨Nat.le_of_ble_eq_true rfl, Nat.le_of_ble_eq_true rfl⟩) hS hC
  · have hw := hw.1 hc
    refine zr_aload_n (r := some h0) hx hb dX18_worth_17 rfl (lv_at hl 1 rfl) ?_
    obtain ⟨a_33, ci_34, fs_35, r_36, er, he, hc, hv, hw⟩ := zgR_e hw
    refine zw_get hk hH er he hv (fk_X18_3 hc) dX18_worth_18 ?_
    refine lv_iconst (v := (4 : Int32)) hx hb dX18_worth_21 (by decide) ?_
    obtain ⟨a_39, ci_40, fs_41, er, he, hc, hw⟩ := zo_e hw
    obtain rfl := List.mem_singleton.mp hc
    refine zr_callv (zw_runVN (As := [.int (4 : Int32)]) hk hH hz hS hl.1 er hw ⟨va_cnB 1 hts (lw_meth q2153) rfl rfl rfl (hk.2.2.1.1 _ q2150 rfl) (hts _ q131) (by decide +kernel) (z_room (Nat.le_of_ble_eq_true rfl)), hts _ q2152, hts _ qs44⟩ he rfl rfl rfl (Nat.le_of_ble_eq_true rfl) dX18_worth_22 ⟨Nat.le_of_ble_eq_true rfl, Nat.le_of_ble_eq_true rfl⟩) hS (fun hp_37 nx_38 hw H locs hH hz hS => ?_)
    refine lv_dconst0 hx hb dX18_worth_25 ?_
    exact zr_dret hk hr hH hz hS hw (Nat.le_of_ble_eq_true rfl) (Nat.le_of_ble_eq_true rfl) dX18_worth_26
def wp_X18_of (l : Launch) (g : zG) (d : Nat) (h0 : Nat) (r1 : Option Nat) (hp : zHp) (nx : Nat) (Post : UInt64 → zHp → Nat → Prop) : Prop :=
  (zgR hp (some h0) [18, 19, 20, 21, 22] 2 fun r_4 =>
  (zo hp r_4 [0] fun a_8 ci_9 fs_10 => zMt l g yX0_sum cX0_sum 6 (some .double) d 0 0 (.ref a_8 :: [va_rf r1]) hp nx (zQd g fun x_7 hp_5 nx_6 =>
  (Post x_7 hp_5 nx_6))))
set_option maxHeartbeats 40000000 in
theorem met_X18_of {l : Launch} {g : zG} {d : Nat} {h0 : Nat} {r1 : Option Nat} {hp : zHp} {nx : Nat} {Post : UInt64 → zHp → Nat → Prop} (hw : wp_X18_of l g d h0 r1 hp nx Post) : zMt l g yX18_of cX18_of 2 (some .double) (d + 1) 0 0 [.ref h0, va_rf r1] hp nx (zQd g Post) := by
  refine z_start (by decide) (by cases r1 <;> exact Nat.le_of_ble_eq_true rfl) ?_
  intro p e s m below meth c hk hr hin hH hz ls hl
  have hx := hk.1.1
  have hb := hk.1.2.1
  have hown := hk.1.2.2.2.1
  have hts := hk.1.2.2.2.2
  have hS : va_S (zAd g) s.heap s.heap [] := va_S.rf
  have hl : lv_has ls 2 [(0, va_rf (some h0)), (1, va_rf r1)] := by cases r1 <;> exact hl
  unfold wp_X18_of at hw
  refine zr_aload_n (r := some h0) hx hb dX18_of_0 rfl (lv_at hl 0 rfl) ?_
  obtain ⟨a_1, ci_2, fs_3, r_4, er, he, hc, hv, hw⟩ := zgR_e hw
  refine zw_get hk hH er he hv (fk_X18_3 hc) dX18_of_1 ?_
  refine zr_aload_n (r := r1) hx hb dX18_of_4 rfl (lv_at hl 1 rfl) ?_
  obtain ⟨a_8, ci_9, fs_10, er, he, hc, hw⟩ := zo_e hw
  obtain rfl := List.mem_singleton.mp hc
  refine zr_calld (zw_runVN (As := [va_rf r1]) hk hH hz hS hl.1 er hw ⟨va_cnB 1 hts (lw_meth q2222) rfl rfl rfl (hk.2.2.1.1 _ q2219 rfl) (hts _ q131) (by decide +kernel) (z_room (Nat.le_of_ble_eq_true rfl)), hts _ q2221, hts _ qs49⟩ he rfl rfl rfl (Nat.le_of_ble_eq_true rfl) dX18_of_5 ⟨Nat.le_of_ble_eq_true rfl, Nat.le_of_ble_eq_true rfl⟩) hS (fun x_7 hp_5 nx_6 hw H locs hH hz hS => ?_)
  exact zr_dret hk hr hH hz hS hw (Nat.le_of_ble_eq_true rfl) (Nat.le_of_ble_eq_true rfl) dX18_of_8
theorem ff_X19_3 {ci : Nat} (h : ci ∈ [19, 20, 21]) : zFf "WhatIfSheet$Mean" 3 ci 3 (.object "WhatIfSheet") := by
  simp only [List.mem_cons, List.not_mem_nil, or_false] at h
  rcases h with rfl | rfl | rfl
  · exact ⟨RX19, TX19, 4, rfl, by decide, q1752, rfl, rfl, by decide +kernel⟩
  · exact ⟨RX20, TX20, 5, rfl, by decide, q1752, rfl, rfl, by decide +kernel⟩
  · exact ⟨RX21, TX21, 6, rfl, by decide, q1752, rfl, rfl, by decide +kernel⟩
def wp_X19_init (l : Launch) (g : zG) (d : Nat) (h0 : Nat) (r1 : Option Nat) (x2 : Int32) (hp : zHp) (nx : Nat) (Post : zHp → Nat → Prop) : Prop :=
  (zpt g hp (some h0) [19, 20, 21] 3 (va_rf r1) fun hp_4 =>
  (zMt l g yX18_init cX18_init 3 none d 0 0 (.ref h0 :: [va_rf r1, .int x2]) hp_4 nx (zQv g fun hp_5 nx_6 =>
  (Post hp_5 nx_6))))
set_option maxHeartbeats 40000000 in
theorem met_X19_init {l : Launch} {g : zG} {d : Nat} {h0 : Nat} {r1 : Option Nat} {x2 : Int32} {hp : zHp} {nx : Nat} {Post : zHp → Nat → Prop} (hw : wp_X19_init l g d h0 r1 x2 hp nx Post) : zMt l g yX19_init cX19_init 3 none (d + 1) 0 0 [.ref h0, va_rf r1, .int x2] hp nx (zQv g Post) := by
  refine z_start (by decide) (by cases r1 <;> exact Nat.le_of_ble_eq_true rfl) ?_
  intro p e s m below meth c hk hr hin hH hz ls hl
  have hx := hk.1.1
  have hb := hk.1.2.1
  have hown := hk.1.2.2.2.1
  have hts := hk.1.2.2.2.2
  have hS : va_S (zAd g) s.heap s.heap [] := va_S.rf
  have hl : lv_has ls 3 [(0, va_rf (some h0)), (1, va_rf r1), (2, .int x2)] := by cases r1 <;> exact hl
  unfold wp_X19_init at hw
  refine zr_aload_n (r := some h0) hx hb dX19_init_0 rfl (lv_at hl 0 rfl) ?_
  refine zr_aload_n (r := r1) hx hb dX19_init_1 rfl (lv_at hl 1 rfl) ?_
  obtain ⟨a_1, ci_2, fs_3, hp_4, er, he, hc, hA, hkl, eh, hw⟩ := zpt_e hw
  refine zw_putF hk hin hH hz hS er he hA hkl eh (ff_X19_3 hc) (z_narR _ _) (z_fitR _ _) dX19_init_2 (fun H locs hH hz hS => ?_)
  refine zr_aload_n (r := some h0) hx hb dX19_init_5 rfl (lv_at hl 0 rfl) ?_
  refine zr_aload_n (r := r1) hx hb dX19_init_6 rfl (lv_at hl 1 rfl) ?_
  refine lv_iload_n hx hb dX19_init_7 rfl (lv_at hl 2 rfl) ?_
  refine zr_callv (zw_runI (As := [va_rf r1, .int x2]) (r := some h0) hk hH hz hS hl.1 rfl hw (cwI 2 hts (lw_meth q1730) rfl rfl rfl (hts _ q182) (hts _ q1751) (hts _ q1729) rfl (by decide +kernel) (z_room (Nat.le_of_ble_eq_true rfl))) rfl rfl (Nat.le_of_ble_eq_true rfl) dX19_init_8 ⟨Nat.le_of_ble_eq_true rfl, Nat.le_of_ble_eq_true rfl⟩) hS (fun hp_5 nx_6 hw H locs hH hz hS => ?_)
  exact zr_vret hk hr hH hz hS hw (Nat.le_of_ble_eq_true rfl) (Nat.le_of_ble_eq_true rfl) dX19_init_11
theorem fk_X19_3 {ci : Nat} (h : ci ∈ [19, 20, 21]) : zFk "WhatIfSheet$Mean" 3 ci 3 := by
  simp only [List.mem_cons, List.not_mem_nil, or_false] at h
  rcases h with rfl | rfl | rfl
  · exact ⟨RX19, TX19, 4, rfl, by decide, q1752⟩
  · exact ⟨RX20, TX20, 5, rfl, by decide, q1752⟩
  · exact ⟨RX21, TX21, 6, rfl, by decide, q1752⟩
theorem fn_X19_21 {ci : Nat} (h : ci ∈ [0]) : zFkN "WhatIfSheet$Mean" 21 ci 5 := by
  simp only [List.mem_cons, List.not_mem_nil, or_false] at h
  rcases h with rfl
  · exact ⟨RX0, TX0, 30, "WhatIfSheet", rfl, by decide, q1212⟩
theorem fs_X19_25 {ci : Nat} (h : ci ∈ [18, 19, 20, 21, 22]) : zFkS "WhatIfSheet$Mean" 25 ci 1 := by
  simp only [List.mem_cons, List.not_mem_nil, or_false] at h
  rcases h with rfl | rfl | rfl | rfl | rfl
  · exact ⟨RX18, TX18, 3, "WhatIfSheet$Mean", rfl, by decide, q1733, q1734⟩
  · exact ⟨RX19, TX19, 4, "WhatIfSheet$Mean", rfl, by decide, q1733, q1734⟩
  · exact ⟨RX20, TX20, 5, "WhatIfSheet$Mean", rfl, by decide, q1733, q1734⟩
  · exact ⟨RX21, TX21, 6, "WhatIfSheet$Mean", rfl, by decide, q1733, q1734⟩
  · exact ⟨RX22, TX22, 4, "WhatIfSheet$Mean", rfl, by decide, q1733, q1734⟩
theorem fk_X19_29 {ci : Nat} (h : ci ∈ [1]) : zFk "WhatIfSheet$Mean" 29 ci 6 := by
  simp only [List.mem_cons, List.not_mem_nil, or_false] at h
  rcases h with rfl
  · exact ⟨RX1, TX1, 13, rfl, by decide, q233⟩
def wp_X19_good (l : Launch) (g : zG) (d : Nat) (h0 : Nat) (r1 : Option Nat) (hp : zHp) (nx : Nat) (Post : Int32 → zHp → Nat → Prop) : Prop :=
  (∃ I_4 : Nat → Int32 → Int32 → zHp → Nat → Prop, (∃ n_56, I_4 n_56 (0 : Int32) (0 : Int32) hp nx) ∧ ∀ (n_5 : Nat) (x_1 : Int32) (x_2 : Int32) (hp_3 : zHp) (nx_4 : Nat), I_4 n_5 x_1 x_2 hp_3 nx_4 →
  (zo hp_3 r1 [31] fun a_53 ci_54 fs_55 => zMt l g yX31_cases cX31_cases 1 (some .int) d 0 0 (.ref a_53 :: []) hp_3 nx_4 (zQi g fun x_8 hp_6 nx_7 =>
  ((x_8 ≤ x_2 →
  (∃ P_53 : Int32 → Int32 → zHp → Nat → Prop, (∀ (x_9 : Int32) (x_10 : Int32) (hp_11 : zHp) (nx_12 : Nat), P_53 x_9 x_10 hp_11 nx_12 →
  (Post x_9 hp_11 nx_12)) ∧
  ((x_1 = 0 →
  (zgR hp_6 (some h0) [19, 20, 21] 3 fun r_16 =>
  (zo hp_6 r_16 [0] fun a_19 ci_20 fs_21 => zMt l g yX0_faults cX0_faults 2 none d 0 0 (.ref a_19 :: [.int (4 : Int32)]) hp_6 nx_7 (zQv g fun hp_17 nx_18 =>
  P_53 x_1 x_2 hp_17 nx_18)))) ∧
  (¬ x_1 = 0 →
  P_53 x_1 x_2 hp_6 nx_7)))) ∧
  (¬ x_8 ≤ x_2 →
  (zgR hp_6 (some h0) [19, 20, 21] 3 fun r_25 =>
  (zgR hp_6 r_25 [0] 5 fun r_29 =>
  (zgI hp_6 (some h0) [18, 19, 20, 21, 22] 1 fun x_33 =>
  (zaR (g.2.1 9) hp_6 r_29 fun a_34 n_35 f_36 => vp_in x_33 n_35 ∧ ∀ r_37 : Option Nat, r_37 = f_36 x_33.toNatClampNeg →
  (zgR hp_6 r_37 [1] 6 fun r_41 =>
  (zaI (g.2.1 2) hp_6 r_41 fun a_42 n_43 f_44 => vp_in x_2 n_43 ∧ ∀ x_45 : Int32, x_45 = f_44 x_2.toNatClampNeg →
  (∃ P_35 : Int32 → Int32 → zHp → Nat → Prop, (∀ (x_46 : Int32) (x_47 : Int32) (hp_48 : zHp) (nx_49 : Nat), P_35 x_46 x_47 hp_48 nx_49 →
  (∀ x_50 : Int32, x_50 = x_47 + (1 : Int32) →
  (∃ k_51, k_51 < n_5 ∧ I_4 k_51 x_46 x_50 hp_48 nx_49))) ∧
  ((x_45 = 0 →
  (∀ x_52 : Int32, x_52 = x_1 + (1 : Int32) →
  P_35 x_52 x_2 hp_6 nx_7)) ∧
  (¬ x_45 = 0 →
  P_35 x_1 x_2 hp_6 nx_7))))))))))))))
set_option maxHeartbeats 40000000 in
theorem met_X19_good {l : Launch} {g : zG} {d : Nat} {h0 : Nat} {r1 : Option Nat} {hp : zHp} {nx : Nat} {Post : Int32 → zHp → Nat → Prop} (hw : wp_X19_good l g d h0 r1 hp nx Post) : zMt l g yX19_good cX19_good 4 (some .int) (d + 1) 0 0 [.ref h0, va_rf r1] hp nx (zQi g Post) := by
  refine z_start (by decide) (by cases r1 <;> exact Nat.le_of_ble_eq_true rfl) ?_
  intro p e s m below meth c hk hr hin hH hz ls hl
  have hx := hk.1.1
  have hb := hk.1.2.1
  have hown := hk.1.2.2.2.1
  have hts := hk.1.2.2.2.2
  have hS : va_S (zAd g) s.heap s.heap [] := va_S.rf
  have hl : lv_has ls 4 [(0, va_rf (some h0)), (1, va_rf r1)] := by cases r1 <;> exact hl
  unfold wp_X19_good at hw
  refine lv_iconst (v := (0 : Int32)) hx hb dX19_good_0 (by decide) ?_
  refine lv_istore_n (i := 2) (lv' := [(2, .int (0 : Int32)), (0, va_rf (some h0)), (1, va_rf r1)]) hx hb dX19_good_1 rfl hl (by decide) (by first | rfl | simp [List.filter_cons, z_cat, z_catI, z_catJ, z_catF, z_catD]) (fun ls hl => ?_)
  refine lv_iconst (v := (0 : Int32)) hx hb dX19_good_2 (by decide) ?_
  refine lv_istore_n (i := 3) (lv' := [(3, .int (0 : Int32)), (2, .int (0 : Int32)), (0, va_rf (some h0)), (1, va_rf r1)]) hx hb dX19_good_3 rfl hl (by decide) (by first | rfl | simp [List.filter_cons, z_cat, z_catI, z_catJ, z_catF, z_catD]) (fun ls hl => ?_)
  obtain ⟨I_4, ⟨n_56, hI⟩, hB_4⟩ := hw
  have hL_4 : ∀ (n_5 : Nat) (x_1 : Int32) (x_2 : Int32) (hp_3 : zHp) (nx_4 : Nat) (H : Heap) (locs : List Loc) (ls : Array Slot), I_4 n_5 x_1 x_2 hp_3 nx_4 → lv_has ls 4 [(0, va_rf (some h0)), (1, va_rf r1), (2, .int x_1), (3, .int x_2)] → zHd g hp_3 H → H.size = nx_4 → va_S (zAd g) s.heap H locs → W p l e (zrm (d + 1) 0 0) s m ([.ref h0, va_rf r1] : List Value).toArray below meth c H locs 0 0 (MQ below (zQi g Post) ([.ref h0, va_rf r1] : List Value).toArray s 0 0 (zAd g)) (F0 m 4 ls []) := by
    intro n_5
    induction n_5 using Nat.strongRecOn with
    | _ n_5 ih_4 =>
      intro x_1 x_2 hp_3 nx_4 H locs ls hw hl hH hz hS
      have hw := hB_4 n_5 x_1 x_2 hp_3 nx_4 hw
      refine lv_iload_n hx hb dX19_good_4 rfl (lv_at hl 3 rfl) ?_
      refine zr_aload_n (r := r1) hx hb dX19_good_5 rfl (lv_at hl 1 rfl) ?_
      obtain ⟨a_53, ci_54, fs_55, er, he, hc, hw⟩ := zo_e hw
      obtain rfl := List.mem_singleton.mp hc
      refine zr_calli (zw_runV (As := []) hk hH hz hS hl.1 er hw (cwV 0 hts (lw_V q2194 q1169 q1170 q195 q1171) rfl rfl rfl (by decide +kernel) (z_room (Nat.le_of_ble_eq_true rfl))) he rfl rfl rfl (Nat.le_of_ble_eq_true rfl) dX19_good_6 ⟨Nat.le_of_ble_eq_true rfl, Nat.le_of_ble_eq_true rfl⟩) hS (fun x_8 hp_6 nx_7 hw H locs hH hz hS => ?_)
      refine lv_icmp_ge (tgt := 41) hx hb dX19_good_9 (by decide) (fun hc => ?_) (fun hc => ?_)
      · have hw := hw.1 hc
        refine lv_iload_n hx hb dX19_good_41 rfl (lv_at hl 2 rfl) ?_
        obtain ⟨P_53, hP_53, hw⟩ := hw
        have hJ_53 : ∀ (x_9 : Int32) (x_10 : Int32) (hp_11 : zHp) (nx_12 : Nat) (H : Heap) (locs : List Loc) (ls : Array Slot), P_53 x_9 x_10 hp_11 nx_12 → lv_has ls 4 [(0, va_rf (some h0)), (1, va_rf r1), (2, .int x_9), (3, .int x_10)] → zHd g hp_11 H → H.size = nx_12 → va_S (zAd g) s.heap H locs → W p l e (zrm (d + 1) 0 0) s m ([.ref h0, va_rf r1] : List Value).toArray below meth c H locs 0 0 (MQ below (zQi g Post) ([.ref h0, va_rf r1] : List Value).toArray s 0 0 (zAd g)) (F0 m 53 ls []) := by
          intro x_9 x_10 hp_11 nx_12 H locs ls hw hl hH hz hS
          have hw := hP_53 x_9 x_10 hp_11 nx_12 hw
          refine lv_iload_n hx hb dX19_good_53 rfl (lv_at hl 2 rfl) ?_
          exact zr_iret hk hr hH hz hS hw (Nat.le_of_ble_eq_true rfl) (Nat.le_of_ble_eq_true rfl) dX19_good_54
        refine lv_if_ne (tgt := 53) hx hb dX19_good_42 (by decide) (fun hc => ?_) (fun hc => ?_)
        · have hw := hw.2 hc
          exact hJ_53 x_1 x_2 hp_6 nx_7 _ _ _ hw hl hH hz hS
        · have hw := hw.1 hc
          refine zr_aload_n (r := some h0) hx hb dX19_good_45 rfl (lv_at hl 0 rfl) ?_
          obtain ⟨a_13, ci_14, fs_15, r_16, er, he, hc, hv, hw⟩ := zgR_e hw
          refine zw_get hk hH er he hv (fk_X19_3 hc) dX19_good_46 ?_
          refine lv_iconst (v := (4 : Int32)) hx hb dX19_good_49 (by decide) ?_
          obtain ⟨a_19, ci_20, fs_21, er, he, hc, hw⟩ := zo_e hw
          obtain rfl := List.mem_singleton.mp hc
          refine zr_callv (zw_runVN (As := [.int (4 : Int32)]) hk hH hz hS hl.1 er hw ⟨va_cnB 1 hts (lw_meth q2153) rfl rfl rfl (hk.2.2.1.1 _ q2195 rfl) (hts _ q131) (by decide +kernel) (z_room (Nat.le_of_ble_eq_true rfl)), hts _ q2152, hts _ qs44⟩ he rfl rfl rfl (Nat.le_of_ble_eq_true rfl) dX19_good_50 ⟨Nat.le_of_ble_eq_true rfl, Nat.le_of_ble_eq_true rfl⟩) hS (fun hp_17 nx_18 hw H locs hH hz hS => ?_)
          exact hJ_53 x_1 x_2 hp_17 nx_18 _ _ _ hw hl hH hz hS
      · have hw := hw.2 hc
        refine zr_aload_n (r := some h0) hx hb dX19_good_12 rfl (lv_at hl 0 rfl) ?_
        obtain ⟨a_22, ci_23, fs_24, r_25, er, he, hc, hv, hw⟩ := zgR_e hw
        refine zw_get hk hH er he hv (fk_X19_3 hc) dX19_good_13 ?_
        obtain ⟨a_26, ci_27, fs_28, r_29, er, he, hc, hv, hw⟩ := zgR_e hw
        refine zw_getN hk hH er he hv (fn_X19_21 hc) dX19_good_16 ?_
        refine zr_aload_n (r := some h0) hx hb dX19_good_19 rfl (lv_at hl 0 rfl) ?_
        obtain ⟨a_30, ci_31, fs_32, x_33, er, he, hc, hv, hw⟩ := zgI_e hw
        refine zw_getS hk hH er he hv (fs_X19_25 hc) dX19_good_20 ?_
        obtain ⟨a_34, n_35, f_36, er, he, hi, hw⟩ := zaR_e hw
        have hw := hw _ rfl
        refine zw_aald hk hH 9 er he rfl rfl hi dX19_good_23 ?_
        generalize f_36 x_33.toNatClampNeg = r_37 at hw ⊢
        obtain ⟨a_38, ci_39, fs_40, r_41, er, he, hc, hv, hw⟩ := zgR_e hw
        refine zw_get hk hH er he hv (fk_X19_29 hc) dX19_good_24 ?_
        refine lv_iload_n hx hb dX19_good_27 rfl (lv_at hl 3 rfl) ?_
        obtain ⟨a_42, n_43, f_44, er, he, hi, hw⟩ := zaI_e hw
        have hw := hw _ rfl
        refine zw_bald hk hH er he hi dX19_good_28 ?_
        generalize f_44 x_2.toNatClampNeg = x_45 at hw ⊢
        obtain ⟨P_35, hP_35, hw⟩ := hw
        have hJ_35 : ∀ (x_46 : Int32) (x_47 : Int32) (hp_48 : zHp) (nx_49 : Nat) (H : Heap) (locs : List Loc) (ls : Array Slot), P_35 x_46 x_47 hp_48 nx_49 → lv_has ls 4 [(0, va_rf (some h0)), (1, va_rf r1), (2, .int x_46), (3, .int x_47)] → zHd g hp_48 H → H.size = nx_49 → va_S (zAd g) s.heap H locs → W p l e (zrm (d + 1) 0 0) s m ([.ref h0, va_rf r1] : List Value).toArray below meth c H locs 0 0 (MQ below (zQi g Post) ([.ref h0, va_rf r1] : List Value).toArray s 0 0 (zAd g)) (F0 m 35 ls []) := by
          intro x_46 x_47 hp_48 nx_49 H locs ls hw hl hH hz hS
          have hw := hP_35 x_46 x_47 hp_48 nx_49 hw
          obtain ⟨x_50, ex_50⟩ : ∃ y : Int32, y = x_47 + (1 : Int32) := ⟨_, rfl⟩
          have hw := hw x_50 ex_50
          refine lv_iinc (v := x_50) (lv' := [(3, .int x_50), (0, va_rf (some h0)), (1, va_rf r1), (2, .int x_46)]) hx hb dX19_good_35 hl (k := 3) rfl (by rw [ex_50]; rfl) (by decide) (by first | rfl | simp [List.filter_cons, z_cat, z_catI, z_catJ, z_catF, z_catD]) (fun ls hl => ?_)
          refine lv_goto (tgt := 4) hx hb dX19_good_38 (by decide) ?_
          obtain ⟨k_51, hlt, hw⟩ := hw
          exact ih_4 k_51 hlt x_46 x_50 hp_48 nx_49 _ _ _ hw (lv_sub hl [1, 2, 3, 0] rfl) hH hz hS
        refine lv_if_ne (tgt := 35) hx hb dX19_good_29 (by decide) (fun hc => ?_) (fun hc => ?_)
        · have hw := hw.2 hc
          exact hJ_35 x_1 x_2 hp_6 nx_7 _ _ _ hw hl hH hz hS
        · have hw := hw.1 hc
          obtain ⟨x_52, ex_52⟩ : ∃ y : Int32, y = x_1 + (1 : Int32) := ⟨_, rfl⟩
          have hw := hw x_52 ex_52
          refine lv_iinc (v := x_52) (lv' := [(2, .int x_52), (0, va_rf (some h0)), (1, va_rf r1), (3, .int x_2)]) hx hb dX19_good_32 hl (k := 2) rfl (by rw [ex_52]; rfl) (by decide) (by first | rfl | simp [List.filter_cons, z_cat, z_catI, z_catJ, z_catF, z_catD]) (fun ls hl => ?_)
          exact hJ_35 x_52 x_2 hp_6 nx_7 _ _ _ hw (lv_sub hl [1, 2, 0, 3] rfl) hH hz hS
  exact hL_4 n_56 (0 : Int32) (0 : Int32) hp nx _ _ _ hI (lv_sub hl [2, 3, 1, 0] rfl) hH hz hS
theorem cz_19_20_21 {ci : Nat} (h : ci ∈ [19, 20, 21]) : ∃ (C : String) (T : u_T) (N : Nat), zcl[ci]? = some (C, T, N) := by
  simp only [List.mem_cons, List.not_mem_nil, or_false] at h
  rcases h with rfl | rfl | rfl <;> exact ⟨_, _, _, rfl⟩
def wp_X19_of (l : Launch) (g : zG) (d : Nat) (h0 : Nat) (r1 : Option Nat) (hp : zHp) (nx : Nat) (Post : UInt64 → zHp → Nat → Prop) : Prop :=
  (zo hp (some h0) [19, 20, 21] fun a_16 ci_17 fs_18 => ∃ PP_19 : Int32 → zHp → Nat → Prop, (∀ (x_3 : Int32) (hp_1 : zHp) (nx_2 : Nat), PP_19 x_3 hp_1 nx_2 →
  (zo hp_1 (some h0) [19, 20, 21] fun a_12 ci_13 fs_14 => zMt l g yX18_of cX18_of 2 (some .double) d 0 0 (.ref a_12 :: [va_rf r1]) hp_1 nx_2 (zQd g fun x_6 hp_4 nx_5 =>
  (∃ P_24 : Int32 → UInt64 → UInt64 → zHp → Nat → Prop, (∀ (x_7 : Int32) (x_8 : UInt64) (x_9 : UInt64) (hp_10 : zHp) (nx_11 : Nat), P_24 x_7 x_8 x_9 hp_10 nx_11 →
  (Post x_9 hp_10 nx_11)) ∧
  ((x_3 = 0 →
  P_24 x_3 x_6 FP.dconst0 hp_4 nx_5) ∧
  (¬ x_3 = 0 →
  (vf_n64 (FP.ddiv x_6 (FP.i2d x_3)) ∧ P_24 x_3 x_6 (FP.ddiv x_6 (FP.i2d x_3)) hp_4 nx_5))))))) ∧ zMt l g yX19_good cX19_good 4 (some .int) d 0 0 (.ref a_16 :: [va_rf r1]) hp nx (zQi g PP_19))
set_option maxHeartbeats 40000000 in
theorem met_X19_of {l : Launch} {g : zG} {d : Nat} {h0 : Nat} {r1 : Option Nat} {hp : zHp} {nx : Nat} {Post : UInt64 → zHp → Nat → Prop} (hw : wp_X19_of l g d h0 r1 hp nx Post) : zMt l g yX19_of cX19_of 5 (some .double) (d + 1) 0 0 [.ref h0, va_rf r1] hp nx (zQd g Post) := by
  refine z_start (by decide) (by cases r1 <;> exact Nat.le_of_ble_eq_true rfl) ?_
  intro p e s m below meth c hk hr hin hH hz ls hl
  have hx := hk.1.1
  have hb := hk.1.2.1
  have hown := hk.1.2.2.2.1
  have hts := hk.1.2.2.2.2
  have hS : va_S (zAd g) s.heap s.heap [] := va_S.rf
  have hl : lv_has ls 5 [(0, va_rf (some h0)), (1, va_rf r1)] := by cases r1 <;> exact hl
  unfold wp_X19_of at hw
  refine zr_aload_n (r := some h0) hx hb dX19_of_0 rfl (lv_at hl 0 rfl) ?_
  refine zr_aload_n (r := r1) hx hb dX19_of_1 rfl (lv_at hl 1 rfl) ?_
  obtain ⟨a_16, ci_17, fs_18, er, he, hc, PP_19, hPP, hw⟩ := zo_e hw
  have hC : ∀ (x_3 : Int32) (hp_1 : zHp) (nx_2 : Nat), PP_19 x_3 hp_1 nx_2 → ∀ (H : Heap) (locs : List Loc), zHd g hp_1 H → H.size = nx_2 → va_S (zAd g) s.heap H locs → W p l e (zrm (d + 1) 0 0) s m ([.ref h0, va_rf r1] : List Value).toArray below meth c H locs (0 + 0) (0 + 0) (MQ below (zQd g Post) ([.ref h0, va_rf r1] : List Value).toArray s 0 0 (zAd g)) (F0 m 5 ls [.int x_3]) := by
    intro x_3 hp_1 nx_2 hw H locs hH hz hS
    have hw := hPP x_3 hp_1 nx_2 hw
    refine lv_istore_n (i := 2) (lv' := [(2, .int x_3), (0, va_rf (some h0)), (1, va_rf r1)]) hx hb dX19_of_5 rfl hl (by decide) (by first | rfl | simp [List.filter_cons, z_cat, z_catI, z_catJ, z_catF, z_catD]) (fun ls hl => ?_)
    refine zr_aload_n (r := some h0) hx hb dX19_of_6 rfl (lv_at hl 1 rfl) ?_
    refine zr_aload_n (r := r1) hx hb dX19_of_7 rfl (lv_at hl 2 rfl) ?_
    obtain ⟨a_12, ci_13, fs_14, er, he, hc, hw⟩ := zo_e hw
    obtain ⟨C_, T_, N_, hcl_⟩ := cz_19_20_21 hc
    refine zr_calld (zw_runSU (C := C_) (As := [va_rf r1]) hk hH hz hS hl.1 er hw (va_cwSU 1 hts (z_SU q2216 q2179 q1758 q2177 q182 q2218) rfl rfl rfl (by decide +kernel) (z_room (Nat.le_of_ble_eq_true rfl))) he hcl_ rfl rfl (Nat.le_of_ble_eq_true rfl) dX19_of_8 ⟨Nat.le_of_ble_eq_true rfl, Nat.le_of_ble_eq_true rfl⟩) hS (fun x_6 hp_4 nx_5 hw H locs hH hz hS => ?_)
    refine lv_dstore_n (i := 3) (lv' := [(3, .double x_6), (2, .int x_3), (0, va_rf (some h0)), (1, va_rf r1)]) hx hb dX19_of_11 rfl hl (by decide) (by first | rfl | simp [List.filter_cons, z_cat, z_catI, z_catJ, z_catF, z_catD]) (fun ls hl => ?_)
    refine lv_iload_n hx hb dX19_of_12 rfl (lv_at hl 1 rfl) ?_
    obtain ⟨P_24, hP_24, hw⟩ := hw
    have hJ_24 : ∀ (x_7 : Int32) (x_8 : UInt64) (x_9 : UInt64) (hp_10 : zHp) (nx_11 : Nat) (H : Heap) (locs : List Loc) (ls : Array Slot), P_24 x_7 x_8 x_9 hp_10 nx_11 → lv_has ls 5 [(0, va_rf (some h0)), (1, va_rf r1), (2, .int x_7), (3, .double x_8)] → zHd g hp_10 H → H.size = nx_11 → va_S (zAd g) s.heap H locs → W p l e (zrm (d + 1) 0 0) s m ([.ref h0, va_rf r1] : List Value).toArray below meth c H locs 0 0 (MQ below (zQd g Post) ([.ref h0, va_rf r1] : List Value).toArray s 0 0 (zAd g)) (F0 m 24 ls [.double x_9]) := by
      intro x_7 x_8 x_9 hp_10 nx_11 H locs ls hw hl hH hz hS
      have hw := hP_24 x_7 x_8 x_9 hp_10 nx_11 hw
      exact zr_dret hk hr hH hz hS hw (Nat.le_of_ble_eq_true rfl) (Nat.le_of_ble_eq_true rfl) dX19_of_24
    refine lv_if_ne (tgt := 20) hx hb dX19_of_13 (by decide) (fun hc => ?_) (fun hc => ?_)
    · have hw := hw.2 hc
      refine lv_dload_n hx hb dX19_of_20 rfl (lv_at hl 0 rfl) ?_
      refine lv_iload_n hx hb dX19_of_21 rfl (lv_at hl 1 rfl) ?_
      refine lv_i2d hx hb dX19_of_22 ?_
      obtain ⟨hne, hw⟩ := hw
      refine lv_ddiv hx hb dX19_of_23 hne ?_
      exact hJ_24 x_3 x_6 (FP.ddiv x_6 (FP.i2d x_3)) hp_4 nx_5 _ _ _ hw (lv_sub hl [2, 3, 1, 0] rfl) hH hz hS
    · have hw := hw.1 hc
      refine lv_dconst0 hx hb dX19_of_16 ?_
      refine lv_goto (tgt := 24) hx hb dX19_of_17 (by decide) ?_
      exact hJ_24 x_3 x_6 FP.dconst0 hp_4 nx_5 _ _ _ hw (lv_sub hl [2, 3, 1, 0] rfl) hH hz hS
  simp only [List.mem_cons, List.not_mem_nil, or_false] at hc
  rcases hc with rfl | rfl | rfl
  · exact zr_calli (zw_runV (As := [va_rf r1]) hk hH hz hS hl.1 er (hw) (cwV 1 hts (lw_V q2215 q2192 q3366 q183 q2193) rfl rfl rfl (by decide +kernel) (z_room (Nat.le_of_ble_eq_true rfl))) he rfl rfl rfl (Nat.le_of_ble_eq_true rfl) dX19_of_2 ⟨Nat.le_of_ble_eq_true rfl, Nat.le_of_ble_eq_true rfl⟩) hS hC
  · exact zr_calli (zw_runU (As := [va_rf r1]) hk hH hz hS hl.1 er (hw) (va_cwU 1 hts (z_U q2215 q3364 q3365 q2192 q183 q2193) rfl rfl rfl rfl (by decide +kernel) (z_room (Nat.le_of_ble_eq_true rfl))) he rfl rfl rfl (Nat.le_of_ble_eq_true rfl) dX19_of_2 ⟨Nat.le_of_ble_eq_true rfl, Nat.le_of_ble_eq_true rfl⟩) hS hC
  · exact zr_calli (zw_runU (As := [va_rf r1]) hk hH hz hS hl.1 er (hw) (va_cwU 1 hts (z_U q2215 q3364 q3367 q2192 q183 q2193) rfl rfl rfl rfl (by decide +kernel) (z_room (Nat.le_of_ble_eq_true rfl))) he rfl rfl rfl (Nat.le_of_ble_eq_true rfl) dX19_of_2 ⟨Nat.le_of_ble_eq_true rfl, Nat.le_of_ble_eq_true rfl⟩) hS hC
theorem fp_X2_11 {ci : Nat} (h : ci ∈ [2, 6, 7, 8, 9, 10]) : zFp "WhatIfSheet$Plain" 11 ci 2 .double := by
  simp only [List.mem_cons, List.not_mem_nil, or_false] at h
  rcases h with rfl | rfl | rfl | rfl | rfl | rfl
  · exact ⟨RX2, TX2, 3, rfl, by decide, q660, rfl, by decide +kernel⟩
  · exact ⟨RX6, TX6, 3, rfl, by decide, q660, rfl, by decide +kernel⟩
  · exact ⟨RX7, TX7, 3, rfl, by decide, q660, rfl, by decide +kernel⟩
  · exact ⟨RX8, TX8, 3, rfl, by decide, q660, rfl, by decide +kernel⟩
  · exact ⟨RX9, TX9, 3, rfl, by decide, q660, rfl, by decide +kernel⟩
  · exact ⟨RX10, TX10, 3, rfl, by decide, q660, rfl, by decide +kernel⟩
theorem ff_X2_17 {ci : Nat} (h : ci ∈ [2, 6, 7, 8, 9, 10]) : zFf "WhatIfSheet$Plain" 17 ci 0 .int := by
  simp only [List.mem_cons, List.not_mem_nil, or_false] at h
  rcases h with rfl | rfl | rfl | rfl | rfl | rfl
  · exact ⟨RX2, TX2, 3, rfl, by decide, q656, rfl, rfl, by decide +kernel⟩
  · exact ⟨RX6, TX6, 3, rfl, by decide, q656, rfl, rfl, by decide +kernel⟩
  · exact ⟨RX7, TX7, 3, rfl, by decide, q656, rfl, rfl, by decide +kernel⟩
  · exact ⟨RX8, TX8, 3, rfl, by decide, q656, rfl, rfl, by decide +kernel⟩
  · exact ⟨RX9, TX9, 3, rfl, by decide, q656, rfl, rfl, by decide +kernel⟩
  · exact ⟨RX10, TX10, 3, rfl, by decide, q656, rfl, rfl, by decide +kernel⟩
def wp_X2_init (l : Launch) (g : zG) (d : Nat) (h0 : Nat) (x1 : Int32) (hp : zHp) (nx : Nat) (Post : zHp → Nat → Prop) : Prop :=
  (zpt g hp (some h0) [2, 6, 7, 8, 9, 10] 2 (.double (9221120237041090560 : UInt64)) fun hp_4 =>
  (zpt g hp_4 (some h0) [2, 6, 7, 8, 9, 10] 0 (.int x1) fun hp_8 =>
  (Post hp_8 nx)))
set_option maxHeartbeats 40000000 in
theorem met_X2_init {l : Launch} {g : zG} {d : Nat} {h0 : Nat} {x1 : Int32} {hp : zHp} {nx : Nat} {Post : zHp → Nat → Prop} (hw : wp_X2_init l g d h0 x1 hp nx Post) : zMt l g yX2_init cX2_init 2 none (d + 1) 0 0 [.ref h0, .int x1] hp nx (zQv g Post) := by
  refine z_start (by decide) (Nat.le_of_ble_eq_true rfl) ?_
  intro p e s m below meth c hk hr hin hH hz ls hl
  have hx := hk.1.1
  have hb := hk.1.2.1
  have hown := hk.1.2.2.2.1
  have hts := hk.1.2.2.2.2
  have hS : va_S (zAd g) s.heap s.heap [] := va_S.rf
  have hl : lv_has ls 2 [(0, va_rf (some h0)), (1, .int x1)] := hl
  unfold wp_X2_init at hw
  refine zr_aload_n (r := some h0) hx hb dX2_init_0 rfl (lv_at hl 0 rfl) ?_
  refine W.objInit (a := h0) hx hb hown (hts _ q654) (hts _ q206) (hts _ q207) rfl (by rw [hk.1.2.2.1]; exact hl.1) rfl dX2_init_1 (Nat.le_add_left 1 d) (Nat.le_trans (Nat.le_of_ble_eq_true rfl : _ ≤ 64) (by show 64 ≤ 64 * (d + 1); omega)) ?_
  refine W.eq (g2 := F0 m 4 ls []) rfl ?_
  refine zr_aload_n (r := some h0) hx hb dX2_init_4 rfl (lv_at hl 0 rfl) ?_
  refine lv_ldc2d hx hb hown (hts _ q655) dX2_init_5 ?_
  obtain ⟨a_1, ci_2, fs_3, hp_4, er, he, hc, hA, hkl, eh, hw⟩ := zpt_e hw
  refine zw_put hk hH hz hS er he hA hkl eh (fp_X2_11 hc) rfl rfl dX2_init_8 (fun H locs hH hz hS => ?_)
  refine zr_aload_n (r := some h0) hx hb dX2_init_11 rfl (lv_at hl 0 rfl) ?_
  refine lv_iload_n hx hb dX2_init_12 rfl (lv_at hl 1 rfl) ?_
  obtain ⟨a_5, ci_6, fs_7, hp_8, er, he, hc, hA, hkl, eh, hw⟩ := zpt_e hw
  refine zw_putF hk hin hH hz hS er he hA hkl eh (ff_X2_17 hc) rfl rfl dX2_init_13 (fun H locs hH hz hS => ?_)
  exact zr_vret hk hr hH hz hS hw (Nat.le_of_ble_eq_true rfl) (Nat.le_of_ble_eq_true rfl) dX2_init_16
theorem fk_X2_25 {ci : Nat} (h : ci ∈ [2, 6, 7, 8, 9, 10]) : zFk "WhatIfSheet$Plain" 25 ci 1 := by
  simp only [List.mem_cons, List.not_mem_nil, or_false] at h
  rcases h with rfl | rfl | rfl | rfl | rfl | rfl
  · exact ⟨RX2, TX2, 3, rfl, by decide, q658⟩
  · exact ⟨RX6, TX6, 3, rfl, by decide, q658⟩
  · exact ⟨RX7, TX7, 3, rfl, by decide, q658⟩
  · exact ⟨RX8, TX8, 3, rfl, by decide, q658⟩
  · exact ⟨RX9, TX9, 3, rfl, by decide, q658⟩
  · exact ⟨RX10, TX10, 3, rfl, by decide, q658⟩
def wp_X2_isInput (l : Launch) (g : zG) (d : Nat) (h0 : Nat) (hp : zHp) (nx : Nat) (Post : Int32 → zHp → Nat → Prop) : Prop :=
  (zgR hp (some h0) [2, 6, 7, 8, 9, 10] 1 fun r_4 =>
  (∃ P_12 : Int32 → Prop, (∀ (x_5 : Int32), P_12 x_5 →
  (((x_5 = 0 ∨ x_5 = 1) ∧ Post x_5 hp nx))) ∧
  ((r_4 = none →
  P_12 (1 : Int32)) ∧
  (¬ r_4 = none →
  P_12 (0 : Int32)))))
set_option maxHeartbeats 40000000 in
theorem met_X2_isInput {l : Launch} {g : zG} {d : Nat} {h0 : Nat} {hp : zHp} {nx : Nat} {Post : Int32 → zHp → Nat → Prop} (hw : wp_X2_isInput l g d h0 hp nx Post) : zMt l g yX2_isInput cX2_isInput 1 (some .boolean) (d + 1) 0 0 [.ref h0] hp nx (zQi g Post) := by
  refine z_start (by decide) (Nat.le_of_ble_eq_true rfl) ?_
  intro p e s m below meth c hk hr hin hH hz ls hl
  have hx := hk.1.1
  have hb := hk.1.2.1
  have hown := hk.1.2.2.2.1
  have hts := hk.1.2.2.2.2
  have hS : va_S (zAd g) s.heap s.heap [] := va_S.rf
  have hl : lv_has ls 1 [(0, va_rf (some h0))] := hl
  unfold wp_X2_isInput at hw
  refine zr_aload_n (r := some h0) hx hb dX2_isInput_0 rfl (lv_at hl 0 rfl) ?_
  obtain ⟨a_1, ci_2, fs_3, r_4, er, he, hc, hv, hw⟩ := zgR_e hw
  refine zw_get hk hH er he hv (fk_X2_25 hc) dX2_isInput_1 ?_
  obtain ⟨P_12, hP_12, hw⟩ := hw
  have hJ_12 : ∀ (x_5 : Int32) (H : Heap) (locs : List Loc) (ls : Array Slot), P_12 x_5 → lv_has ls 1 [(0, va_rf (some h0))] → zHd g hp H → H.size = nx → va_S (zAd g) s.heap H locs → W p l e (zrm (d + 1) 0 0) s m ([.ref h0] : List Value).toArray below meth c H locs 0 0 (MQ below (zQi g Post) ([.ref h0] : List Value).toArray s 0 0 (zAd g)) (F0 m 12 ls [.int x_5]) := by
    intro x_5 H locs ls hw hl hH hz hS
    have hw := hP_12 x_5 hw
    exact zr_zret hk hr hH hz hS hw.1 hw.2 (Nat.le_of_ble_eq_true rfl) (Nat.le_of_ble_eq_true rfl) dX2_isInput_12
  refine zr_ifnonnull (r := r_4) (tgt := 11) hx hb dX2_isInput_4 (by decide) (fun hc => ?_) (fun hc => ?_)
  · have hw := hw.2 hc
    refine lv_iconst (v := (0 : Int32)) hx hb dX2_isInput_11 (by decide) ?_
    exact hJ_12 (0 : Int32) _ _ _ hw hl hH hz hS
  · have hw := hw.1 hc
    refine lv_iconst (v := (1 : Int32)) hx hb dX2_isInput_7 (by decide) ?_
    refine lv_goto (tgt := 12) hx hb dX2_isInput_8 (by decide) ?_
    exact hJ_12 (1 : Int32) _ _ _ hw hl hH hz hS
def wp_X2_kept (l : Launch) (g : zG) (d : Nat) (h0 : Nat) (x1 : UInt64) (hp : zHp) (nx : Nat) (Post : UInt64 → zHp → Nat → Prop) : Prop :=
  (zo hp (some h0) [2, 6, 7, 8, 9, 10] fun a_8 ci_9 fs_10 => ∃ PP_11 : UInt64 → zHp → Nat → Prop, (∀ (x_3 : UInt64) (hp_1 : zHp) (nx_2 : Nat), PP_11 x_3 hp_1 nx_2 →
  (∃ P_17 : UInt64 → UInt64 → zHp → Nat → Prop, (∀ (x_4 : UInt64) (x_5 : UInt64) (hp_6 : zHp) (nx_7 : Nat), P_17 x_4 x_5 hp_6 nx_7 →
  (Post x_5 hp_6 nx_7)) ∧
  (((Op.cmpValue (FP.dcmp x_3 FP.dconst0) .l) = 0 →
  P_17 x_3 FP.dconst0 hp_1 nx_2) ∧
  (¬ (Op.cmpValue (FP.dcmp x_3 FP.dconst0) .l) = 0 →
  P_17 x_3 x_3 hp_1 nx_2)))) ∧ ((ci_9 = 2 → zMt l g yX2_fits cX2_fits 3 (some .double) d 0 0 (.ref a_8 :: [.double x1]) hp nx (zQd g PP_11)) ∧ (ci_9 = 6 → zMt l g yX6_fits cX6_fits 3 (some .double) d 0 0 (.ref a_8 :: [.double x1]) hp nx (zQd g PP_11)) ∧ (ci_9 = 7 → zMt l g yX7_fits cX7_fits 3 (some .double) d 0 0 (.ref a_8 :: [.double x1]) hp nx (zQd g PP_11)) ∧ (ci_9 = 8 → zMt l g yX8_fits cX8_fits 3 (some .double) d 0 0 (.ref a_8 :: [.double x1]) hp nx (zQd g PP_11)) ∧ (ci_9 = 9 → zMt l g yX9_fits cX9_fits 3 (some .double) d 0 0 (.ref a_8 :: [.double x1]) hp nx (zQd g PP_11)) ∧ (ci_9 = 10 → zMt l g yX10_fits cX10_fits 5 (some .double) d 0 0 (.ref a_8 :: [.double x1]) hp nx (zQd g PP_11))))
set_option maxHeartbeats 40000000 in
theorem met_X2_kept {l : Launch} {g : zG} {d : Nat} {h0 : Nat} {x1 : UInt64} {hp : zHp} {nx : Nat} {Post : UInt64 → zHp → Nat → Prop} (hw : wp_X2_kept l g d h0 x1 hp nx Post) : zMt l g yX2_kept cX2_kept 5 (some .double) (d + 1) 0 0 [.ref h0, .double x1] hp nx (zQd g Post) := by
  refine z_start (by decide) (Nat.le_of_ble_eq_true rfl) ?_
  intro p e s m below meth c hk hr hin hH hz ls hl
  have hx := hk.1.1
  have hb := hk.1.2.1
  have hown := hk.1.2.2.2.1
  have hts := hk.1.2.2.2.2
  have hS : va_S (zAd g) s.heap s.heap [] := va_S.rf
  have hl : lv_has ls 5 [(0, va_rf (some h0)), (1, .double x1)] := hl
  unfold wp_X2_kept at hw
  refine zr_aload_n (r := some h0) hx hb dX2_kept_0 rfl (lv_at hl 0 rfl) ?_
  refine lv_dload_n hx hb dX2_kept_1 rfl (lv_at hl 1 rfl) ?_
  obtain ⟨a_8, ci_9, fs_10, er, he, hc, PP_11, hPP, hw⟩ := zo_e hw
  have hC : ∀ (x_3 : UInt64) (hp_1 : zHp) (nx_2 : Nat), PP_11 x_3 hp_1 nx_2 → ∀ (H : Heap) (locs : List Loc), zHd g hp_1 H → H.size = nx_2 → va_S (zAd g) s.heap H locs → W p l e (zrm (d + 1) 0 0) s m ([.ref h0, .double x1] : List Value).toArray below meth c H locs (0 + 0) (0 + 0) (MQ below (zQd g Post) ([.ref h0, .double x1] : List Value).toArray s 0 0 (zAd g)) (F0 m 5 ls [.double x_3]) := by
    intro x_3 hp_1 nx_2 hw H locs hH hz hS
    have hw := hPP x_3 hp_1 nx_2 hw
    refine lv_dstore_n (i := 3) (lv' := [(3, .double x_3), (0, va_rf (some h0)), (1, .double x1)]) hx hb dX2_kept_5 rfl hl (by decide) (by first | rfl | simp [List.filter_cons, z_cat, z_catI, z_catJ, z_catF, z_catD]) (fun ls hl => ?_)
    refine lv_dload_n hx hb dX2_kept_6 rfl (lv_at hl 0 rfl) ?_
    refine lv_dconst0 hx hb dX2_kept_7 ?_
    refine lv_dcmp hx hb dX2_kept_8 ?_
    obtain ⟨P_17, hP_17, hw⟩ := hw
    have hJ_17 : ∀ (x_4 : UInt64) (x_5 : UInt64) (hp_6 : zHp) (nx_7 : Nat) (H : Heap) (locs : List Loc) (ls : Array Slot), P_17 x_4 x_5 hp_6 nx_7 → lv_has ls 5 [(0, va_rf (some h0)), (1, .double x1), (3, .double x_4)] → zHd g hp_6 H → H.size = nx_7 → va_S (zAd g) s.heap H locs → W p l e (zrm (d + 1) 0 0) s m ([.ref h0, .double x1] : List Value).toArray below meth c H locs 0 0 (MQ below (zQd g Post) ([.ref h0, .double x1] : List Value).toArray s 0 0 (zAd g)) (F0 m 17 ls [.double x_5]) := by
      intro x_4 x_5 hp_6 nx_7 H locs ls hw hl hH hz hS
      have hw := hP_17 x_4 x_5 hp_6 nx_7 hw
      exact zr_dret hk hr hH hz hS hw (Nat.le_of_ble_eq_true rfl) (Nat.le_of_ble_eq_true rfl) dX2_kept_17
    refine lv_if_ne (tgt := 16) hx hb dX2_kept_9 (by decide) (fun hc => ?_) (fun hc => ?_)
    · have hw := hw.2 hc
      refine lv_dload_n hx hb dX2_kept_16 rfl (lv_at hl 0 rfl) ?_
      exact hJ_17 x_3 x_3 hp_1 nx_2 _ _ _ hw (lv_sub hl [1, 2, 0] rfl) hH hz hS
    · have hw := hw.1 hc
      refine lv_dconst0 hx hb dX2_kept_12 ?_
      refine lv_goto (tgt := 17) hx hb dX2_kept_13 (by decide) ?_
      exact hJ_17 x_3 FP.dconst0 hp_1 nx_2 _ _ _ hw (lv_sub hl [1, 2, 0] rfl) hH hz hS
  simp only [List.mem_cons, List.not_mem_nil, or_false] at hc
  rcases hc with rfl | rfl | rfl | rfl | rfl | rfl
  · exact zr_calld (zw_runV (As := [.double x1]) hk hH hz hS hl.1 er (hw.1 rfl) (cwV 1 hts (lw_V q1990 q1991 q1992 q152 q2022) rfl rfl rfl (by decide +kernel) (z_room (Nat.le_of_ble_eq_true rfl))) he rfl rfl rfl (Nat.le_of_ble_eq_true rfl) dX2_kept_2 ⟨Nat.le_of_ble_eq_true rfl, Nat.le_of_ble_eq_true rfl⟩) hS hC
  · exact zr_calld (zw_runU (As := [.double x1]) hk hH hz hS hl.1 er (hw.2.1 rfl) (va_cwO 1 hts (z_O q1990 q1993 q1991 q2021 q2011 q163 q2012) rfl rfl rfl q2022 (by decide +kernel) (z_room (Nat.le_of_ble_eq_true rfl))) he rfl rfl rfl (Nat.le_of_ble_eq_true rfl) dX2_kept_2 ⟨Nat.le_of_ble_eq_true rfl, Nat.le_of_ble_eq_true rfl⟩) hS hC
  · exact zr_calld (zw_runU (As := [.double x1]) hk hH hz hS hl.1 er (hw.2.2.1 rfl) (va_cwO 1 hts (z_O q1990 q1993 q1991 q2001 q2002 q164 q2003) rfl rfl rfl q2022 (by decide +kernel) (z_room (Nat.le_of_ble_eq_true rfl))) he rfl rfl rfl (Nat.le_of_ble_eq_true rfl) dX2_kept_2 ⟨Nat.le_of_ble_eq_true rfl, Nat.le_of_ble_eq_true rfl⟩) hS hC
  · exact zr_calld (zw_runU (As := [.double x1]) hk hH hz hS hl.1 er (hw.2.2.2.1 rfl) (va_cwO 1 hts (z_O q1990 q1993 q1991 q2006 q2007 q165 q2008) rfl rfl rfl q2022 (by decide +kernel) (z_room (Nat.le_of_ble_eq_true rfl))) he rfl rfl rfl (Nat.le_of_ble_eq_true rfl) dX2_kept_2 ⟨Nat.le_of_ble_eq_true rfl, Nat.le_of_ble_eq_true rfl⟩) hS hC
  · exact zr_calld (zw_runU (As := [.double x1]) hk hH hz hS hl.1 er (hw.2.2.2.2.1 rfl) (va_cwO 1 hts (z_O q1990 q1993 q1991 q2015 q2016 q166 q2017) rfl rfl rfl q2022 (by decide +kernel) (z_room (Nat.le_of_ble_eq_true rfl))) he rfl rfl rfl (Nat.le_of_ble_eq_true rfl) dX2_kept_2 ⟨Nat.le_of_ble_eq_true rfl, Nat.le_of_ble_eq_true rfl⟩) hS hC
  · exact zr_calld (zw_runU (As := [.double x1]) hk hH hz hS hl.1 er (hw.2.2.2.2.2 rfl) (va_cwO 1 hts (z_O q1990 q1993 q1991 q1994 q1995 q167 q1996) rfl rfl rfl q2022 (by decide +kernel) (z_room (Nat.le_of_ble_eq_true rfl))) he rfl rfl rfl (Nat.le_of_ble_eq_true rfl) dX2_kept_2 ⟨Nat.le_of_ble_eq_true rfl, Nat.le_of_ble_eq_true rfl⟩) hS hC
def wp_X2_fits (l : Launch) (g : zG) (d : Nat) (h0 : Nat) (x1 : UInt64) (hp : zHp) (nx : Nat) (Post : UInt64 → zHp → Nat → Prop) : Prop :=
  (Post x1 hp nx)
set_option maxHeartbeats 40000000 in
theorem met_X2_fits {l : Launch} {g : zG} {d : Nat} {h0 : Nat} {x1 : UInt64} {hp : zHp} {nx : Nat} {Post : UInt64 → zHp → Nat → Prop} (hw : wp_X2_fits l g d h0 x1 hp nx Post) : zMt l g yX2_fits cX2_fits 3 (some .double) (d + 1) 0 0 [.ref h0, .double x1] hp nx (zQd g Post) := by
  refine z_start (by decide) (Nat.le_of_ble_eq_true rfl) ?_
  intro p e s m below meth c hk hr hin hH hz ls hl
  have hx := hk.1.1
  have hb := hk.1.2.1
  have hown := hk.1.2.2.2.1
  have hts := hk.1.2.2.2.2
  have hS : va_S (zAd g) s.heap s.heap [] := va_S.rf
  have hl : lv_has ls 3 [(0, va_rf (some h0)), (1, .double x1)] := hl
  unfold wp_X2_fits at hw
  refine lv_dload_n hx hb dX2_fits_0 rfl (lv_at hl 1 rfl) ?_
  exact zr_dret hk hr hH hz hS hw (Nat.le_of_ble_eq_true rfl) (Nat.le_of_ble_eq_true rfl) dX2_fits_1
def wp_X2_kind (l : Launch) (g : zG) (d : Nat) (h0 : Nat) (hp : zHp) (nx : Nat) (Post : Int32 → zHp → Nat → Prop) : Prop :=
  (Post (0 : Int32) hp nx)
set_option maxHeartbeats 40000000 in
theorem met_X2_kind {l : Launch} {g : zG} {d : Nat} {h0 : Nat} {hp : zHp} {nx : Nat} {Post : Int32 → zHp → Nat → Prop} (hw : wp_X2_kind l g d h0 hp nx Post) : zMt l g yX2_kind cX2_kind 1 (some .int) (d + 1) 0 0 [.ref h0] hp nx (zQi g Post) := by
  refine z_start (by decide) (Nat.le_of_ble_eq_true rfl) ?_
  intro p e s m below meth c hk hr hin hH hz ls hl
  have hx := hk.1.1
  have hb := hk.1.2.1
  have hown := hk.1.2.2.2.1
  have hts := hk.1.2.2.2.2
  have hS : va_S (zAd g) s.heap s.heap [] := va_S.rf
  have hl : lv_has ls 1 [(0, va_rf (some h0))] := hl
  unfold wp_X2_kind at hw
  refine lv_iconst (v := (0 : Int32)) hx hb dX2_kind_0 (by decide) ?_
  exact zr_iret hk hr hH hz hS hw (Nat.le_of_ble_eq_true rfl) (Nat.le_of_ble_eq_true rfl) dX2_kind_1
theorem fp_X2_25 {ci : Nat} (h : ci ∈ [2, 6, 7, 8, 9, 10]) : zFp "WhatIfSheet$Plain" 25 ci 1 (.object "WhatIfSheet$Formula") := by
  simp only [List.mem_cons, List.not_mem_nil, or_false] at h
  rcases h with rfl | rfl | rfl | rfl | rfl | rfl
  · exact ⟨RX2, TX2, 3, rfl, by decide, q658, rfl, by decide +kernel⟩
  · exact ⟨RX6, TX6, 3, rfl, by decide, q658, rfl, by decide +kernel⟩
  · exact ⟨RX7, TX7, 3, rfl, by decide, q658, rfl, by decide +kernel⟩
  · exact ⟨RX8, TX8, 3, rfl, by decide, q658, rfl, by decide +kernel⟩
  · exact ⟨RX9, TX9, 3, rfl, by decide, q658, rfl, by decide +kernel⟩
  · exact ⟨RX10, TX10, 3, rfl, by decide, q658, rfl, by decide +kernel⟩
theorem fk_X2_11 {ci : Nat} (h : ci ∈ [2, 6, 7, 8, 9, 10]) : zFk "WhatIfSheet$Plain" 11 ci 2 := by
  simp only [List.mem_cons, List.not_mem_nil, or_false] at h
  rcases h with rfl | rfl | rfl | rfl | rfl | rfl
  · exact ⟨RX2, TX2, 3, rfl, by decide, q660⟩
  · exact ⟨RX6, TX6, 3, rfl, by decide, q660⟩
  · exact ⟨RX7, TX7, 3, rfl, by decide, q660⟩
  · exact ⟨RX8, TX8, 3, rfl, by decide, q660⟩
  · exact ⟨RX9, TX9, 3, rfl, by decide, q660⟩
  · exact ⟨RX10, TX10, 3, rfl, by decide, q660⟩
def wp_X2_like (l : Launch) (g : zG) (d : Nat) (h0 : Nat) (r1 : Option Nat) (hp : zHp) (nx : Nat) (Post : Option Nat → zHp → Nat → Prop) : Prop :=
  (zgR hp r1 [2, 6, 7, 8, 9, 10] 1 fun r_4 =>
  (zpt g hp (some h0) [2, 6, 7, 8, 9, 10] 1 (va_rf r_4) fun hp_8 =>
  (zo hp_8 r1 [2, 6, 7, 8, 9, 10] fun a_31 ci_32 fs_33 => ∃ PP_34 : Int32 → zHp → Nat → Prop, (∀ (x_11 : Int32) (hp_9 : zHp) (nx_10 : Nat), PP_34 x_11 hp_9 nx_10 →
  (∃ P_30 : (Option Nat) → UInt64 → zHp → Nat → Prop, (∀ (r_12 : Option Nat) (x_13 : UInt64) (hp_14 : zHp) (nx_15 : Nat), P_30 r_12 x_13 hp_14 nx_15 →
  (zpt g hp_14 r_12 [2, 6, 7, 8, 9, 10] 2 (.double x_13) fun hp_19 =>
  (Post (some h0) hp_19 nx_15))) ∧
  ((x_11 = 0 →
  (zgD hp_9 r1 [2, 6, 7, 8, 9, 10] 2 fun x_23 =>
  (zo hp_9 (some h0) [2, 6, 7, 8, 9, 10] fun a_27 ci_28 fs_29 => ∃ PP_30 : UInt64 → zHp → Nat → Prop, (∀ (x_26 : UInt64) (hp_24 : zHp) (nx_25 : Nat), PP_30 x_26 hp_24 nx_25 →
  P_30 (some h0) x_26 hp_24 nx_25) ∧ zMt l g yX2_kept cX2_kept 5 (some .double) d 0 0 (.ref a_27 :: [.double x_23]) hp_9 nx_10 (zQd g PP_30)))) ∧
  (¬ x_11 = 0 →
  P_30 (some h0) (9221120237041090560 : UInt64) hp_9 nx_10)))) ∧ zMt l g yX2_isEmpty cX2_isEmpty 1 (some .boolean) d 0 0 (.ref a_31 :: []) hp_8 nx (zQi g PP_34))))
set_option maxHeartbeats 40000000 in
theorem met_X2_like {l : Launch} {g : zG} {d : Nat} {h0 : Nat} {r1 : Option Nat} {hp : zHp} {nx : Nat} {Post : Option Nat → zHp → Nat → Prop} (hw : wp_X2_like l g d h0 r1 hp nx Post) : zMt l g yX2_like cX2_like 2 (some (.object "WhatIfSheet$Plain")) (d + 1) 0 0 [.ref h0, va_rf r1] hp nx (zQq g Post) := by
  refine z_start (by decide) (by cases r1 <;> exact Nat.le_of_ble_eq_true rfl) ?_
  intro p e s m below meth c hk hr hin hH hz ls hl
  have hx := hk.1.1
  have hb := hk.1.2.1
  have hown := hk.1.2.2.2.1
  have hts := hk.1.2.2.2.2
  have hS : va_S (zAd g) s.heap s.heap [] := va_S.rf
  have hl : lv_has ls 2 [(0, va_rf (some h0)), (1, va_rf r1)] := by cases r1 <;> exact hl
  unfold wp_X2_like at hw
  refine zr_aload_n (r := some h0) hx hb dX2_like_0 rfl (lv_at hl 0 rfl) ?_
  refine zr_aload_n (r := r1) hx hb dX2_like_1 rfl (lv_at hl 1 rfl) ?_
  obtain ⟨a_1, ci_2, fs_3, r_4, er, he, hc, hv, hw⟩ := zgR_e hw
  refine zw_get hk hH er he hv (fk_X2_25 hc) dX2_like_2 ?_
  obtain ⟨a_5, ci_6, fs_7, hp_8, er, he, hc, hA, hkl, eh, hw⟩ := zpt_e hw
  refine zw_put hk hH hz hS er he hA hkl eh (fp_X2_25 hc) (z_narR _ _) (z_fitR _ _) dX2_like_5 (fun H locs hH hz hS => ?_)
  refine zr_aload_n (r := some h0) hx hb dX2_like_8 rfl (lv_at hl 0 rfl) ?_
  refine zr_aload_n (r := r1) hx hb dX2_like_9 rfl (lv_at hl 1 rfl) ?_
  obtain ⟨a_31, ci_32, fs_33, er, he, hc, PP_34, hPP, hw⟩ := zo_e hw
  have hC : ∀ (x_11 : Int32) (hp_9 : zHp) (nx_10 : Nat), PP_34 x_11 hp_9 nx_10 → ∀ (H : Heap) (locs : List Loc), zHd g hp_9 H → H.size = nx_10 → va_S (zAd g) s.heap H locs → W p l e (zrm (d + 1) 0 0) s m ([.ref h0, va_rf r1] : List Value).toArray below meth c H locs (0 + 0) (0 + 0) (MQ below (zQq g Post) ([.ref h0, va_rf r1] : List Value).toArray s 0 0 (zAd g)) (F0 m 13 ls [.int x_11, va_rf (some h0)]) := by
    intro x_11 hp_9 nx_10 hw H locs hH hz hS
    have hw := hPP x_11 hp_9 nx_10 hw
    obtain ⟨P_30, hP_30, hw⟩ := hw
    have hJ_30 : ∀ (r_12 : Option Nat) (x_13 : UInt64) (hp_14 : zHp) (nx_15 : Nat) (H : Heap) (locs : List Loc) (ls : Array Slot), P_30 r_12 x_13 hp_14 nx_15 → lv_has ls 2 [(0, va_rf (some h0)), (1, va_rf r1)] → zHd g hp_14 H → H.size = nx_15 → va_S (zAd g) s.heap H locs → W p l e (zrm (d + 1) 0 0) s m ([.ref h0, va_rf r1] : List Value).toArray below meth c H locs 0 0 (MQ below (zQq g Post) ([.ref h0, va_rf r1] : List Value).toArray s 0 0 (zAd g)) (F0 m 30 ls [.double x_13, va_rf r_12]) := by
      intro r_12 x_13 hp_14 nx_15 H locs ls hw hl hH hz hS
      have hw := hP_30 r_12 x_13 hp_14 nx_15 hw
      obtain ⟨a_16, ci_17, fs_18, hp_19, er, he, hc, hA, hkl, eh, hw⟩ := zpt_e hw
      refine zw_put hk hH hz hS er he hA hkl eh (fp_X2_11 hc) rfl rfl dX2_like_30 (fun H locs hH hz hS => ?_)
      refine zr_aload_n (r := some h0) hx hb dX2_like_33 rfl (lv_at hl 0 rfl) ?_
      exact zr_aret (r := some h0) hk hr (Or.inl ⟨_, rfl⟩) hH hz hS hw (Nat.le_of_ble_eq_true rfl) (Nat.le_of_ble_eq_true rfl) dX2_like_34
    refine lv_if_eq (tgt := 22) hx hb dX2_like_13 (by decide) (fun hc => ?_) (fun hc => ?_)
    · have hw := hw.1 hc
      refine zr_aload_n (r := some h0) hx hb dX2_like_22 rfl (lv_at hl 0 rfl) ?_
      refine zr_aload_n (r := r1) hx hb dX2_like_23 rfl (lv_at hl 1 rfl) ?_
      obtain ⟨a_20, ci_21, fs_22, x_23, er, he, hc, hv, hw⟩ := zgD_e hw
      refine zw_get hk hH er he hv (fk_X2_11 hc) dX2_like_24 ?_
      obtain ⟨a_27, ci_28, fs_29, er, he, hc, PP_30, hPP, hw⟩ := zo_e hw
      have hC : ∀ (x_26 : UInt64) (hp_24 : zHp) (nx_25 : Nat), PP_30 x_26 hp_24 nx_25 → ∀ (H : Heap) (locs : List Loc), zHd g hp_24 H → H.size = nx_25 → va_S (zAd g) s.heap H locs → W p l e (zrm (d + 1) 0 0) s m ([.ref h0, va_rf r1] : List Value).toArray below meth c H locs (0 + 0) (0 + 0) (MQ below (zQq g Post) ([.ref h0, va_rf r1] : List Value).toArray s 0 0 (zAd g)) (F0 m 30 ls [.double x_26, va_rf (some h0)]) := by
        intro x_26 hp_24 nx_25 hw H locs hH hz hS
        have hw := hPP x_26 hp_24 nx_25 hw
        exact hJ_30 (some h0) x_26 hp_24 nx_25 _ _ _ hw hl hH hz hS
      simp only [List.mem_cons, List.not_mem_nil, or_false] at hc
      rcases hc with rfl | rfl | rfl | rfl | rfl | rfl
      · exact zr_calld (zw_runV (As := [.double x_23]) hk hH hz hS hl.1 er (hw) (cwV 1 hts (lw_V q2119 q1981 q1982 q152 q1989) rfl rfl rfl (by decide +kernel) (z_room (Nat.le_of_ble_eq_true rfl))) he rfl rfl rfl (by simp only [List.map_cons, List.map_nil, z_cat]; exact Nat.le_of_ble_eq_true rfl) dX2_like_27 ⟨Nat.le_of_ble_eq_true rfl, Nat.le_of_ble_eq_true rfl⟩) hS hC
      · exact zr_calld (zw_runU (As := [.double x_23]) hk hH hz hS hl.1 er (hw) (va_cwU 1 hts (z_U q2119 q1983 q1988 q1981 q152 q1989) rfl rfl rfl rfl (by decide +kernel) (z_room (Nat.le_of_ble_eq_true rfl))) he rfl rfl rfl (by simp only [List.map_cons, List.map_nil, z_cat]; exact Nat.le_of_ble_eq_true rfl) dX2_like_27 ⟨Nat.le_of_ble_eq_true rfl, Nat.le_of_ble_eq_true rfl⟩) hS hC
      · exact zr_calld (zw_runU (As := [.double x_23]) hk hH hz hS hl.1 er (hw) (va_cwU 1 hts (z_U q2119 q1983 q1985 q1981 q152 q1989) rfl rfl rfl rfl (by decide +kernel) (z_room (Nat.le_of_ble_eq_true rfl))) he rfl rfl rfl (by simp only [List.map_cons, List.map_nil, z_cat]; exact Nat.le_of_ble_eq_true rfl) dX2_like_27 ⟨Nat.le_of_ble_eq_true rfl, Nat.le_of_ble_eq_true rfl⟩) hS hC
      · exact zr_calld (zw_runU (As := [.double x_23]) hk hH hz hS hl.1 er (hw) (va_cwU 1 hts (z_U q2119 q1983 q1986 q1981 q152 q1989) rfl rfl rfl rfl (by decide +kernel) (z_room (Nat.le_of_ble_eq_true rfl))) he rfl rfl rfl (by simp only [List.map_cons, List.map_nil, z_cat]; exact Nat.le_of_ble_eq_true rfl) dX2_like_27 ⟨Nat.le_of_ble_eq_true rfl, Nat.le_of_ble_eq_true rfl⟩) hS hC
      · exact zr_calld (zw_runU (As := [.double x_23]) hk hH hz hS hl.1 er (hw) (va_cwU 1 hts (z_U q2119 q1983 q1987 q1981 q152 q1989) rfl rfl rfl rfl (by decide +kernel) (z_room (Nat.le_of_ble_eq_true rfl))) he rfl rfl rfl (by simp only [List.map_cons, List.map_nil, z_cat]; exact Nat.le_of_ble_eq_true rfl) dX2_like_27 ⟨Nat.le_of_ble_eq_true rfl, Nat.le_of_ble_eq_true rfl⟩) hS hC
      · exact zr_calld (zw_runU (As := [.double x_23]) hk hH hz hS hl.1 er (hw) (va_cwU 1 hts (z_U q2119 q1983 q1984 q1981 q152 q1989) rfl rfl rfl rfl (by decide +kernel) (z_room (Nat.le_of_ble_eq_true rfl))) he rfl rfl rfl (by simp only [List.map_cons, List.map_nil, z_cat]; exact Nat.le_of_ble_eq_true rfl) dX2_like_27 ⟨Nat.le_of_ble_eq_true rfl, Nat.le_of_ble_eq_true rfl⟩) hS hC
    · have hw := hw.2 hc
      refine lv_ldc2d hx hb hown (hts _ q655) dX2_like_16 ?_
      refine lv_goto (tgt := 30) hx hb dX2_like_19 (by decide) ?_
      exact hJ_30 (some h0) (9221120237041090560 : UInt64) hp_9 nx_10 _ _ _ hw hl hH hz hS
  simp only [List.mem_cons, List.not_mem_nil, or_false] at hc
  rcases hc with rfl | rfl | rfl | rfl | rfl | rfl
  · exact zr_calli (zw_runV (As := []) hk hH hz hS hl.1 er (hw) (cwV 0 hts (lw_V q2109 q2110 q2111 q152 q2118) rfl rfl rfl (by decide +kernel) (z_room (Nat.le_of_ble_eq_true rfl))) he rfl rfl rfl (by simp only [List.map_cons, List.map_nil, z_cat]; exact Nat.le_of_ble_eq_true rfl) dX2_like_10 ⟨Nat.le_of_ble_eq_true rfl, Nat.le_of_ble_eq_true rfl⟩) hS hC
  · exact zr_calli (zw_runU (As := []) hk hH hz hS hl.1 er (hw) (va_cwU 0 hts (z_U q2109 q2112 q2117 q2110 q152 q2118) rfl rfl rfl rfl (by decide +kernel) (z_room (Nat.le_of_ble_eq_true rfl))) he rfl rfl rfl (by simp only [List.map_cons, List.map_nil, z_cat]; exact Nat.le_of_ble_eq_true rfl) dX2_like_10 ⟨Nat.le_of_ble_eq_true rfl, Nat.le_of_ble_eq_true rfl⟩) hS hC
  · exact zr_calli (zw_runU (As := []) hk hH hz hS hl.1 er (hw) (va_cwU 0 hts (z_U q2109 q2112 q2114 q2110 q152 q2118) rfl rfl rfl rfl (by decide +kernel) (z_room (Nat.le_of_ble_eq_true rfl))) he rfl rfl rfl (by simp only [List.map_cons, List.map_nil, z_cat]; exact Nat.le_of_ble_eq_true rfl) dX2_like_10 ⟨Nat.le_of_ble_eq_true rfl, Nat.le_of_ble_eq_true rfl⟩) hS hC
  · exact zr_calli (zw_runU (As := []) hk hH hz hS hl.1 er (hw) (va_cwU 0 hts (z_U q2109 q2112 q2115 q2110 q152 q2118) rfl rfl rfl rfl (by decide +kernel) (z_room (Nat.le_of_ble_eq_true rfl))) he rfl rfl rfl (by simp only [List.map_cons, List.map_nil, z_cat]; exact Nat.le_of_ble_eq_true rfl) dX2_like_10 ⟨Nat.le_of_ble_eq_true rfl, Nat.le_of_ble_eq_true rfl⟩) hS hC
  · exact zr_calli (zw_runU (As := []) hk hH hz hS hl.1 er (hw) (va_cwU 0 hts (z_U q2109 q2112 q2116 q2110 q152 q2118) rfl rfl rfl rfl (by decide +kernel) (z_room (Nat.le_of_ble_eq_true rfl))) he rfl rfl rfl (by simp only [List.map_cons, List.map_nil, z_cat]; exact Nat.le_of_ble_eq_true rfl) dX2_like_10 ⟨Nat.le_of_ble_eq_true rfl, Nat.le_of_ble_eq_true rfl⟩) hS hC
  · exact zr_calli (zw_runU (As := []) hk hH hz hS hl.1 er (hw) (va_cwU 0 hts (z_U q2109 q2112 q2113 q2110 q152 q2118) rfl rfl rfl rfl (by decide +kernel) (z_room (Nat.le_of_ble_eq_true rfl))) he rfl rfl rfl (by simp only [List.map_cons, List.map_nil, z_cat]; exact Nat.le_of_ble_eq_true rfl) dX2_like_10 ⟨Nat.le_of_ble_eq_true rfl, Nat.le_of_ble_eq_true rfl⟩) hS hC
def wp_X2_isEmpty (l : Launch) (g : zG) (d : Nat) (h0 : Nat) (hp : zHp) (nx : Nat) (Post : Int32 → zHp → Nat → Prop) : Prop :=
  (zgD hp (some h0) [2, 6, 7, 8, 9, 10] 2 fun x_4 =>
  (zgD hp (some h0) [2, 6, 7, 8, 9, 10] 2 fun x_8 =>
  (∃ P_17 : Int32 → Prop, (∀ (x_9 : Int32), P_17 x_9 →
  (((x_9 = 0 ∨ x_9 = 1) ∧ Post x_9 hp nx))) ∧
  (((Op.cmpValue (FP.dcmp x_4 x_8) .l) = 0 →
  P_17 (0 : Int32)) ∧
  (¬ (Op.cmpValue (FP.dcmp x_4 x_8) .l) = 0 →
  P_17 (1 : Int32))))))
set_option maxHeartbeats 40000000 in
theorem met_X2_isEmpty {l : Launch} {g : zG} {d : Nat} {h0 : Nat} {hp : zHp} {nx : Nat} {Post : Int32 → zHp → Nat → Prop} (hw : wp_X2_isEmpty l g d h0 hp nx Post) : zMt l g yX2_isEmpty cX2_isEmpty 1 (some .boolean) (d + 1) 0 0 [.ref h0] hp nx (zQi g Post) := by
  refine z_start (by decide) (Nat.le_of_ble_eq_true rfl) ?_
  intro p e s m below meth c hk hr hin hH hz ls hl
  have hx := hk.1.1
  have hb := hk.1.2.1
  have hown := hk.1.2.2.2.1
  have hts := hk.1.2.2.2.2
  have hS : va_S (zAd g) s.heap s.heap [] := va_S.rf
  have hl : lv_has ls 1 [(0, va_rf (some h0))] := hl
  unfold wp_X2_isEmpty at hw
  refine zr_aload_n (r := some h0) hx hb dX2_isEmpty_0 rfl (lv_at hl 0 rfl) ?_
  obtain ⟨a_1, ci_2, fs_3, x_4, er, he, hc, hv, hw⟩ := zgD_e hw
  refine zw_get hk hH er he hv (fk_X2_11 hc) dX2_isEmpty_1 ?_
  refine zr_aload_n (r := some h0) hx hb dX2_isEmpty_4 rfl (lv_at hl 0 rfl) ?_
  obtain ⟨a_5, ci_6, fs_7, x_8, er, he, hc, hv, hw⟩ := zgD_e hw
  refine zw_get hk hH er he hv (fk_X2_11 hc) dX2_isEmpty_5 ?_
  refine lv_dcmp hx hb dX2_isEmpty_8 ?_
  obtain ⟨P_17, hP_17, hw⟩ := hw
  have hJ_17 : ∀ (x_9 : Int32) (H : Heap) (locs : List Loc) (ls : Array Slot), P_17 x_9 → lv_has ls 1 [(0, va_rf (some h0))] → zHd g hp H → H.size = nx → va_S (zAd g) s.heap H locs → W p l e (zrm (d + 1) 0 0) s m ([.ref h0] : List Value).toArray below meth c H locs 0 0 (MQ below (zQi g Post) ([.ref h0] : List Value).toArray s 0 0 (zAd g)) (F0 m 17 ls [.int x_9]) := by
    intro x_9 H locs ls hw hl hH hz hS
    have hw := hP_17 x_9 hw
    exact zr_zret hk hr hH hz hS hw.1 hw.2 (Nat.le_of_ble_eq_true rfl) (Nat.le_of_ble_eq_true rfl) dX2_isEmpty_17
  refine lv_if_eq (tgt := 16) hx hb dX2_isEmpty_9 (by decide) (fun hc => ?_) (fun hc => ?_)
  · have hw := hw.1 hc
    refine lv_iconst (v := (0 : Int32)) hx hb dX2_isEmpty_16 (by decide) ?_
    exact hJ_17 (0 : Int32) _ _ _ hw hl hH hz hS
  · have hw := hw.2 hc
    refine lv_iconst (v := (1 : Int32)) hx hb dX2_isEmpty_12 (by decide) ?_
    refine lv_goto (tgt := 17) hx hb dX2_isEmpty_13 (by decide) ?_
    exact hJ_17 (1 : Int32) _ _ _ hw hl hH hz hS
theorem ff_X20_3 {ci : Nat} (h : ci ∈ [20, 21]) : zFf "WhatIfSheet$Least" 3 ci 4 (.object "WhatIfSheet") := by
  simp only [List.mem_cons, List.not_mem_nil, or_false] at h
  rcases h with rfl | rfl
  · exact ⟨RX20, TX20, 5, rfl, by decide, q1765, rfl, rfl, by decide +kernel⟩
  · exact ⟨RX21, TX21, 6, rfl, by decide, q1765, rfl, rfl, by decide +kernel⟩
def wp_X20_init (l : Launch) (g : zG) (d : Nat) (h0 : Nat) (r1 : Option Nat) (x2 : Int32) (hp : zHp) (nx : Nat) (Post : zHp → Nat → Prop) : Prop :=
  (zpt g hp (some h0) [20, 21] 4 (va_rf r1) fun hp_4 =>
  (zMt l g yX19_init cX19_init 3 none d 0 0 (.ref h0 :: [va_rf r1, .int x2]) hp_4 nx (zQv g fun hp_5 nx_6 =>
  (Post hp_5 nx_6))))
set_option maxHeartbeats 40000000 in
theorem met_X20_init {l : Launch} {g : zG} {d : Nat} {h0 : Nat} {r1 : Option Nat} {x2 : Int32} {hp : zHp} {nx : Nat} {Post : zHp → Nat → Prop} (hw : wp_X20_init l g d h0 r1 x2 hp nx Post) : zMt l g yX20_init cX20_init 3 none (d + 1) 0 0 [.ref h0, va_rf r1, .int x2] hp nx (zQv g Post) := by
  refine z_start (by decide) (by cases r1 <;> exact Nat.le_of_ble_eq_true rfl) ?_
  intro p e s m below meth c hk hr hin hH hz ls hl
  have hx := hk.1.1
  have hb := hk.1.2.1
  have hown := hk.1.2.2.2.1
  have hts := hk.1.2.2.2.2
  have hS : va_S (zAd g) s.heap s.heap [] := va_S.rf
  have hl : lv_has ls 3 [(0, va_rf (some h0)), (1, va_rf r1), (2, .int x2)] := by cases r1 <;> exact hl
  unfold wp_X20_init at hw
  refine zr_aload_n (r := some h0) hx hb dX20_init_0 rfl (lv_at hl 0 rfl) ?_
  refine zr_aload_n (r := r1) hx hb dX20_init_1 rfl (lv_at hl 1 rfl) ?_
  obtain ⟨a_1, ci_2, fs_3, hp_4, er, he, hc, hA, hkl, eh, hw⟩ := zpt_e hw
  refine zw_putF hk hin hH hz hS er he hA hkl eh (ff_X20_3 hc) (z_narR _ _) (z_fitR _ _) dX20_init_2 (fun H locs hH hz hS => ?_)
  refine zr_aload_n (r := some h0) hx hb dX20_init_5 rfl (lv_at hl 0 rfl) ?_
  refine zr_aload_n (r := r1) hx hb dX20_init_6 rfl (lv_at hl 1 rfl) ?_
  refine lv_iload_n hx hb dX20_init_7 rfl (lv_at hl 2 rfl) ?_
  refine zr_callv (zw_runI (As := [va_rf r1, .int x2]) (r := some h0) hk hH hz hS hl.1 rfl hw (cwI 2 hts (lw_meth q1750) rfl rfl rfl (hts _ q183) (hts _ q1764) (hts _ q1749) rfl (by decide +kernel) (z_room (Nat.le_of_ble_eq_true rfl))) rfl rfl (Nat.le_of_ble_eq_true rfl) dX20_init_8 ⟨Nat.le_of_ble_eq_true rfl, Nat.le_of_ble_eq_true rfl⟩) hS (fun hp_5 nx_6 hw H locs hH hz hS => ?_)
  exact zr_vret hk hr hH hz hS hw (Nat.le_of_ble_eq_true rfl) (Nat.le_of_ble_eq_true rfl) dX20_init_11
theorem fk_X20_3 {ci : Nat} (h : ci ∈ [20, 21]) : zFk "WhatIfSheet$Least" 3 ci 4 := by
  simp only [List.mem_cons, List.not_mem_nil, or_false] at h
  rcases h with rfl | rfl
  · exact ⟨RX20, TX20, 5, rfl, by decide, q1765⟩
  · exact ⟨RX21, TX21, 6, rfl, by decide, q1765⟩
theorem fn_X20_21 {ci : Nat} (h : ci ∈ [0]) : zFkN "WhatIfSheet$Least" 21 ci 5 := by
  simp only [List.mem_cons, List.not_mem_nil, or_false] at h
  rcases h with rfl
  · exact ⟨RX0, TX0, 30, "WhatIfSheet", rfl, by decide, q1214⟩
theorem fs_X20_25 {ci : Nat} (h : ci ∈ [18, 19, 20, 21, 22]) : zFkS "WhatIfSheet$Least" 25 ci 1 := by
  simp only [List.mem_cons, List.not_mem_nil, or_false] at h
  rcases h with rfl | rfl | rfl | rfl | rfl
  · exact ⟨RX18, TX18, 3, "WhatIfSheet$Least", rfl, by decide, q1737, q1738⟩
  · exact ⟨RX19, TX19, 4, "WhatIfSheet$Least", rfl, by decide, q1737, q1738⟩
  · exact ⟨RX20, TX20, 5, "WhatIfSheet$Least", rfl, by decide, q1737, q1738⟩
  · exact ⟨RX21, TX21, 6, "WhatIfSheet$Least", rfl, by decide, q1737, q1738⟩
  · exact ⟨RX22, TX22, 4, "WhatIfSheet$Least", rfl, by decide, q1737, q1738⟩
theorem fk_X20_35 {ci : Nat} (h : ci ∈ [1]) : zFk "WhatIfSheet$Least" 35 ci 2 := by
  simp only [List.mem_cons, List.not_mem_nil, or_false] at h
  rcases h with rfl
  · exact ⟨RX1, TX1, 13, rfl, by decide, q224⟩
def wp_X20_of (l : Launch) (g : zG) (d : Nat) (h0 : Nat) (r1 : Option Nat) (hp : zHp) (nx : Nat) (Post : UInt64 → zHp → Nat → Prop) : Prop :=
  (zo hp (some h0) [20, 21] fun a_38 ci_39 fs_40 => ∃ PP_41 : Int32 → zHp → Nat → Prop, (∀ (x_3 : Int32) (hp_1 : zHp) (nx_2 : Nat), PP_41 x_3 hp_1 nx_2 →
  (∃ P_33 : UInt64 → zHp → Nat → Prop, (∀ (x_4 : UInt64) (hp_5 : zHp) (nx_6 : Nat), P_33 x_4 hp_5 nx_6 →
  (Post x_4 hp_5 nx_6)) ∧
  ((x_3 = 0 →
  P_33 FP.dconst0 hp_1 nx_2) ∧
  (¬ x_3 = 0 →
  (zgR hp_1 (some h0) [20, 21] 4 fun r_10 =>
  (zgR hp_1 r_10 [0] 5 fun r_14 =>
  (zgI hp_1 (some h0) [18, 19, 20, 21, 22] 1 fun x_18 =>
  (zaR (g.2.1 9) hp_1 r_14 fun a_19 n_20 f_21 => vp_in x_18 n_20 ∧ ∀ r_22 : Option Nat, r_22 = f_21 x_18.toNatClampNeg →
  (zgR hp_1 r_22 [1] 2 fun r_26 =>
  (zo hp_1 (some h0) [20, 21] fun a_34 ci_35 fs_36 => ∃ PP_37 : Int32 → zHp → Nat → Prop, (∀ (x_29 : Int32) (hp_27 : zHp) (nx_28 : Nat), PP_37 x_29 hp_27 nx_28 →
  (zaD (g.2.1 1) hp_27 r_26 fun a_30 n_31 f_32 => vp_in x_29 n_31 ∧ ∀ x_33 : UInt64, x_33 = f_32 x_29.toNatClampNeg →
  P_33 x_33 hp_27 nx_28)) ∧ zMt l g yX20_at cX20_at 4 (some .int) d 0 0 (.ref a_34 :: [va_rf r1]) hp_1 nx_2 (zQi g PP_37))))))))))) ∧ zMt l g yX19_good cX19_good 4 (some .int) d 0 0 (.ref a_38 :: [va_rf r1]) hp nx (zQi g PP_41))
set_option maxHeartbeats 40000000 in
theorem met_X20_of {l : Launch} {g : zG} {d : Nat} {h0 : Nat} {r1 : Option Nat} {hp : zHp} {nx : Nat} {Post : UInt64 → zHp → Nat → Prop} (hw : wp_X20_of l g d h0 r1 hp nx Post) : zMt l g yX20_of cX20_of 2 (some .double) (d + 1) 0 0 [.ref h0, va_rf r1] hp nx (zQd g Post) := by
  refine z_start (by decide) (by cases r1 <;> exact Nat.le_of_ble_eq_true rfl) ?_
  intro p e s m below meth c hk hr hin hH hz ls hl
  have hx := hk.1.1
  have hb := hk.1.2.1
  have hown := hk.1.2.2.2.1
  have hts := hk.1.2.2.2.2
  have hS : va_S (zAd g) s.heap s.heap [] := va_S.rf
  have hl : lv_has ls 2 [(0, va_rf (some h0)), (1, va_rf r1)] := by cases r1 <;> exact hl
  unfold wp_X20_of at hw
  refine zr_aload_n (r := some h0) hx hb dX20_of_0 rfl (lv_at hl 0 rfl) ?_
  refine zr_aload_n (r := r1) hx hb dX20_of_1 rfl (lv_at hl 1 rfl) ?_
  obtain ⟨a_38, ci_39, fs_40, er, he, hc, PP_41, hPP, hw⟩ := zo_e hw
  have hC : ∀ (x_3 : Int32) (hp_1 : zHp) (nx_2 : Nat), PP_41 x_3 hp_1 nx_2 → ∀ (H : Heap) (locs : List Loc), zHd g hp_1 H → H.size = nx_2 → va_S (zAd g) s.heap H locs → W p l e (zrm (d + 1) 0 0) s m ([.ref h0, va_rf r1] : List Value).toArray below meth c H locs (0 + 0) (0 + 0) (MQ below (zQd g Post) ([.ref h0, va_rf r1] : List Value).toArray s 0 0 (zAd g)) (F0 m 5 ls [.int x_3]) := by
    intro x_3 hp_1 nx_2 hw H locs hH hz hS
    have hw := hPP x_3 hp_1 nx_2 hw
    obtain ⟨P_33, hP_33, hw⟩ := hw
    have hJ_33 : ∀ (x_4 : UInt64) (hp_5 : zHp) (nx_6 : Nat) (H : Heap) (locs : List Loc) (ls : Array Slot), P_33 x_4 hp_5 nx_6 → lv_has ls 2 [(0, va_rf (some h0)), (1, va_rf r1)] → zHd g hp_5 H → H.size = nx_6 → va_S (zAd g) s.heap H locs → W p l e (zrm (d + 1) 0 0) s m ([.ref h0, va_rf r1] : List Value).toArray below meth c H locs 0 0 (MQ below (zQd g Post) ([.ref h0, va_rf r1] : List Value).toArray s 0 0 (zAd g)) (F0 m 33 ls [.double x_4]) := by
      intro x_4 hp_5 nx_6 H locs ls hw hl hH hz hS
      have hw := hP_33 x_4 hp_5 nx_6 hw
      exact zr_dret hk hr hH hz hS hw (Nat.le_of_ble_eq_true rfl) (Nat.le_of_ble_eq_true rfl) dX20_of_33
    refine lv_if_ne (tgt := 12) hx hb dX20_of_5 (by decide) (fun hc => ?_) (fun hc => ?_)
    · have hw := hw.2 hc
      refine zr_aload_n (r := some h0) hx hb dX20_of_12 rfl (lv_at hl 0 rfl) ?_
      obtain ⟨a_7, ci_8, fs_9, r_10, er, he, hc, hv, hw⟩ := zgR_e hw
      refine zw_get hk hH er he hv (fk_X20_3 hc) dX20_of_13 ?_
      obtain ⟨a_11, ci_12, fs_13, r_14, er, he, hc, hv, hw⟩ := zgR_e hw
      refine zw_getN hk hH er he hv (fn_X20_21 hc) dX20_of_16 ?_
      refine zr_aload_n (r := some h0) hx hb dX20_of_19 rfl (lv_at hl 0 rfl) ?_
      obtain ⟨a_15, ci_16, fs_17, x_18, er, he, hc, hv, hw⟩ := zgI_e hw
      refine zw_getS hk hH er he hv (fs_X20_25 hc) dX20_of_20 ?_
      obtain ⟨a_19, n_20, f_21, er, he, hi, hw⟩ := zaR_e hw
      have hw := hw _ rfl
      refine zw_aald hk hH 9 er he rfl rfl hi dX20_of_23 ?_
      generalize f_21 x_18.toNatClampNeg = r_22 at hw ⊢
      obtain ⟨a_23, ci_24, fs_25, r_26, er, he, hc, hv, hw⟩ := zgR_e hw
      refine zw_get hk hH er he hv (fk_X20_35 hc) dX20_of_24 ?_
      refine zr_aload_n (r := some h0) hx hb dX20_of_27 rfl (lv_at hl 0 rfl) ?_
      refine zr_aload_n (r := r1) hx hb dX20_of_28 rfl (lv_at hl 1 rfl) ?_
      obtain ⟨a_34, ci_35, fs_36, er, he, hc, PP_37, hPP, hw⟩ := zo_e hw
      have hC : ∀ (x_29 : Int32) (hp_27 : zHp) (nx_28 : Nat), PP_37 x_29 hp_27 nx_28 → ∀ (H : Heap) (locs : List Loc), zHd g hp_27 H → H.size = nx_28 → va_S (zAd g) s.heap H locs → W p l e (zrm (d + 1) 0 0) s m ([.ref h0, va_rf r1] : List Value).toArray below meth c H locs (0 + 0) (0 + 0) (MQ below (zQd g Post) ([.ref h0, va_rf r1] : List Value).toArray s 0 0 (zAd g)) (F0 m 32 ls [.int x_29, va_rf r_26]) := by
        intro x_29 hp_27 nx_28 hw H locs hH hz hS
        have hw := hPP x_29 hp_27 nx_28 hw
        obtain ⟨a_30, n_31, f_32, er, he, hi, hw⟩ := zaD_e hw
        have hw := hw _ rfl
        refine zw_dald hk hH er he hi dX20_of_32 ?_
        generalize f_32 x_29.toNatClampNeg = x_33 at hw ⊢
        exact hJ_33 x_33 hp_27 nx_28 _ _ _ hw hl hH hz hS
      simp only [List.mem_cons, List.not_mem_nil, or_false] at hc
      rcases hc with rfl | rfl
      · exact zr_calli (zw_runV (As := [va_rf r1]) hk hH hz hS hl.1 er (hw) (cwV 1 hts (lw_V q2196 q2197 q2198 q184 q2201) rfl rfl rfl (by decide +kernel) (z_room (Nat.le_of_ble_eq_true rfl))) he rfl rfl rfl (by simp only [List.map_cons, List.map_nil, z_cat]; exact Nat.le_of_ble_eq_true rfl) dX20_of_29 ⟨Nat.le_of_ble_eq_true rfl, Nat.le_of_ble_eq_true rfl⟩) hS hC
      · exact zr_calli (zw_runU (As := [va_rf r1]) hk hH hz hS hl.1 er (hw) (va_cwU 1 hts (z_U q2196 q2199 q2200 q2197 q184 q2201) rfl rfl rfl rfl (by decide +kernel) (z_room (Nat.le_of_ble_eq_true rfl))) he rfl rfl rfl (by simp only [List.map_cons, List.map_nil, z_cat]; exact Nat.le_of_ble_eq_true rfl) dX20_of_29 ⟨Nat.le_of_ble_eq_true rfl, Nat.le_of_ble_eq_true rfl⟩) hS hC
    · have hw := hw.1 hc
      refine lv_dconst0 hx hb dX20_of_8 ?_
      refine lv_goto (tgt := 33) hx hb dX20_of_9 (by decide) ?_
      exact hJ_33 FP.dconst0 hp_1 nx_2 _ _ _ hw hl hH hz hS
  simp only [List.mem_cons, List.not_mem_nil, or_false] at hc
  rcases hc with rfl | rfl
  · exact zr_calli (zw_runU (As := [va_rf r1]) hk hH hz hS hl.1 er (hw) (va_cwU 1 hts (z_U q2187 q2188 q2190 q2192 q183 q2193) rfl rfl rfl rfl (by decide +kernel) (z_room (Nat.le_of_ble_eq_true rfl))) he rfl rfl rfl (Nat.le_of_ble_eq_true rfl) dX20_of_2 ⟨Nat.le_of_ble_eq_true rfl, Nat.le_of_ble_eq_true rfl⟩) hS hC
  · exact zr_calli (zw_runU (As := [va_rf r1]) hk hH hz hS hl.1 er (hw) (va_cwU 1 hts (z_U q2187 q2188 q2191 q2192 q183 q2193) rfl rfl rfl rfl (by decide +kernel) (z_room (Nat.le_of_ble_eq_true rfl))) he rfl rfl rfl (Nat.le_of_ble_eq_true rfl) dX20_of_2 ⟨Nat.le_of_ble_eq_true rfl, Nat.le_of_ble_eq_true rfl⟩) hS hC
theorem fk_X20_29 {ci : Nat} (h : ci ∈ [1]) : zFk "WhatIfSheet$Least" 29 ci 6 := by
  simp only [List.mem_cons, List.not_mem_nil, or_false] at h
  rcases h with rfl
  · exact ⟨RX1, TX1, 13, rfl, by decide, q235⟩
def wp_X20_at (l : Launch) (g : zG) (d : Nat) (h0 : Nat) (r1 : Option Nat) (hp : zHp) (nx : Nat) (Post : Int32 → zHp → Nat → Prop) : Prop :=
  (∃ I_4 : Nat → Int32 → Int32 → zHp → Nat → Prop, (∃ n_101, I_4 n_101 (-1 : Int32) (0 : Int32) hp nx) ∧ ∀ (n_5 : Nat) (x_1 : Int32) (x_2 : Int32) (hp_3 : zHp) (nx_4 : Nat), I_4 n_5 x_1 x_2 hp_3 nx_4 →
  (zo hp_3 r1 [31] fun a_98 ci_99 fs_100 => zMt l g yX31_cases cX31_cases 1 (some .int) d 0 0 (.ref a_98 :: []) hp_3 nx_4 (zQi g fun x_8 hp_6 nx_7 =>
  ((x_8 ≤ x_2 →
  (Post x_1 hp_6 nx_7)) ∧
  (¬ x_8 ≤ x_2 →
  (zgR hp_6 (some h0) [20, 21] 4 fun r_12 =>
  (zgR hp_6 r_12 [0] 5 fun r_16 =>
  (zgI hp_6 (some h0) [18, 19, 20, 21, 22] 1 fun x_20 =>
  (zaR (g.2.1 9) hp_6 r_16 fun a_21 n_22 f_23 => vp_in x_20 n_22 ∧ ∀ r_24 : Option Nat, r_24 = f_23 x_20.toNatClampNeg →
  (zgR hp_6 r_24 [1] 6 fun r_28 =>
  (zaI (g.2.1 2) hp_6 r_28 fun a_29 n_30 f_31 => vp_in x_2 n_30 ∧ ∀ x_32 : Int32, x_32 = f_31 x_2.toNatClampNeg →
  (∃ P_83 : Int32 → Int32 → zHp → Nat → Prop, (∀ (x_33 : Int32) (x_34 : Int32) (hp_35 : zHp) (nx_36 : Nat), P_83 x_33 x_34 hp_35 nx_36 →
  (∀ x_37 : Int32, x_37 = x_34 + (1 : Int32) →
  (∃ k_38, k_38 < n_5 ∧ I_4 k_38 x_33 x_37 hp_35 nx_36))) ∧
  ((x_32 = 0 →
  (∃ P_81 : Int32 → Int32 → zHp → Nat → Prop, (∀ (x_39 : Int32) (x_40 : Int32) (hp_41 : zHp) (nx_42 : Nat), P_81 x_39 x_40 hp_41 nx_42 →
  P_83 x_40 x_40 hp_41 nx_42) ∧
  ((x_1 = (-1 : Int32) →
  P_81 x_1 x_2 hp_6 nx_7) ∧
  (¬ x_1 = (-1 : Int32) →
  (zgR hp_6 (some h0) [20, 21] 4 fun r_46 =>
  (zgR hp_6 r_46 [0] 5 fun r_50 =>
  (zgI hp_6 (some h0) [18, 19, 20, 21, 22] 1 fun x_54 =>
  (zaR (g.2.1 9) hp_6 r_50 fun a_55 n_56 f_57 => vp_in x_54 n_56 ∧ ∀ r_58 : Option Nat, r_58 = f_57 x_54.toNatClampNeg →
  (zgR hp_6 r_58 [1] 2 fun r_62 =>
  (zaD (g.2.1 1) hp_6 r_62 fun a_63 n_64 f_65 => vp_in x_2 n_64 ∧ ∀ x_66 : UInt64, x_66 = f_65 x_2.toNatClampNeg →
  (zgR hp_6 (some h0) [20, 21] 4 fun r_70 =>
  (zgR hp_6 r_70 [0] 5 fun r_74 =>
  (zgI hp_6 (some h0) [18, 19, 20, 21, 22] 1 fun x_78 =>
  (zaR (g.2.1 9) hp_6 r_74 fun a_79 n_80 f_81 => vp_in x_78 n_80 ∧ ∀ r_82 : Option Nat, r_82 = f_81 x_78.toNatClampNeg →
  (zgR hp_6 r_82 [1] 2 fun r_86 =>
  (zaD (g.2.1 1) hp_6 r_86 fun a_87 n_88 f_89 => vp_in x_1 n_88 ∧ ∀ x_90 : UInt64, x_90 = f_89 x_1.toNatClampNeg →
  (zo hp_6 (some h0) [20, 21] fun a_94 ci_95 fs_96 => ∃ PP_97 : Int32 → zHp → Nat → Prop, (∀ (x_93 : Int32) (hp_91 : zHp) (nx_92 : Nat), PP_97 x_93 hp_91 nx_92 →
  ((x_93 = 0 →
  P_83 x_1 x_2 hp_91 nx_92) ∧
  (¬ x_93 = 0 →
  P_81 x_1 x_2 hp_91 nx_92))) ∧ ((ci_95 = 20 → zMt l g yX20_isBefore cX20_isBefore 5 (some .boolean) d 0 0 (.ref a_94 :: [.double x_66, .double x_90]) hp_6 nx_7 (zQi g PP_97)) ∧ (ci_95 = 21 → zMt l g yX21_isBefore cX21_isBefore 5 (some .boolean) d 0 0 (.ref a_94 :: [.double x_66, .double x_90]) hp_6 nx_7 (zQi g PP_97)))))))))))))))))))) ∧
  (¬ x_32 = 0 →
  P_83 x_1 x_2 hp_6 nx_7))))))))))))))
set_option maxHeartbeats 40000000 in
theorem met_X20_at {l : Launch} {g : zG} {d : Nat} {h0 : Nat} {r1 : Option Nat} {hp : zHp} {nx : Nat} {Post : Int32 → zHp → Nat → Prop} (hw : wp_X20_at l g d h0 r1 hp nx Post) : zMt l g yX20_at cX20_at 4 (some .int) (d + 1) 0 0 [.ref h0, va_rf r1] hp nx (zQi g Post) := by
  refine z_start (by decide) (by cases r1 <;> exact Nat.le_of_ble_eq_true rfl) ?_
  intro p e s m below meth c hk hr hin hH hz ls hl
  have hx := hk.1.1
  have hb := hk.1.2.1
  have hown := hk.1.2.2.2.1
  have hts := hk.1.2.2.2.2
  have hS : va_S (zAd g) s.heap s.heap [] := va_S.rf
  have hl : lv_has ls 4 [(0, va_rf (some h0)), (1, va_rf r1)] := by cases r1 <;> exact hl
  unfold wp_X20_at at hw
  refine lv_iconst (v := (-1 : Int32)) hx hb dX20_at_0 (by decide) ?_
  refine lv_istore_n (i := 2) (lv' := [(2, .int (-1 : Int32)), (0, va_rf (some h0)), (1, va_rf r1)]) hx hb dX20_at_1 rfl hl (by decide) (by first | rfl | simp [List.filter_cons, z_cat, z_catI, z_catJ, z_catF, z_catD]) (fun ls hl => ?_)
  refine lv_iconst (v := (0 : Int32)) hx hb dX20_at_2 (by decide) ?_
  refine lv_istore_n (i := 3) (lv' := [(3, .int (0 : Int32)), (2, .int (-1 : Int32)), (0, va_rf (some h0)), (1, va_rf r1)]) hx hb dX20_at_3 rfl hl (by decide) (by first | rfl | simp [List.filter_cons, z_cat, z_catI, z_catJ, z_catF, z_catD]) (fun ls hl => ?_)
  obtain ⟨I_4, ⟨n_101, hI⟩, hB_4⟩ := hw
  have hL_4 : ∀ (n_5 : Nat) (x_1 : Int32) (x_2 : Int32) (hp_3 : zHp) (nx_4 : Nat) (H : Heap) (locs : List Loc) (ls : Array Slot), I_4 n_5 x_1 x_2 hp_3 nx_4 → lv_has ls 4 [(0, va_rf (some h0)), (1, va_rf r1), (2, .int x_1), (3, .int x_2)] → zHd g hp_3 H → H.size = nx_4 → va_S (zAd g) s.heap H locs → W p l e (zrm (d + 1) 0 0) s m ([.ref h0, va_rf r1] : List Value).toArray below meth c H locs 0 0 (MQ below (zQi g Post) ([.ref h0, va_rf r1] : List Value).toArray s 0 0 (zAd g)) (F0 m 4 ls []) := by
    intro n_5
    induction n_5 using Nat.strongRecOn with
    | _ n_5 ih_4 =>
      intro x_1 x_2 hp_3 nx_4 H locs ls hw hl hH hz hS
      have hw := hB_4 n_5 x_1 x_2 hp_3 nx_4 hw
      refine lv_iload_n hx hb dX20_at_4 rfl (lv_at hl 3 rfl) ?_
      refine zr_aload_n (r := r1) hx hb dX20_at_5 rfl (lv_at hl 1 rfl) ?_
      obtain ⟨a_98, ci_99, fs_100, er, he, hc, hw⟩ := zo_e hw
      obtain rfl := List.mem_singleton.mp hc
      refine zr_calli (zw_runV (As := []) hk hH hz hS hl.1 er hw (cwV 0 hts (lw_V q2202 q1169 q1170 q195 q1171) rfl rfl rfl (by decide +kernel) (z_room (Nat.le_of_ble_eq_true rfl))) he rfl rfl rfl (Nat.le_of_ble_eq_true rfl) dX20_at_6 ⟨Nat.le_of_ble_eq_true rfl, Nat.le_of_ble_eq_true rfl⟩) hS (fun x_8 hp_6 nx_7 hw H locs hH hz hS => ?_)
      refine lv_icmp_ge (tgt := 89) hx hb dX20_at_9 (by decide) (fun hc => ?_) (fun hc => ?_)
      · have hw := hw.1 hc
        refine lv_iload_n hx hb dX20_at_89 rfl (lv_at hl 2 rfl) ?_
        exact zr_iret hk hr hH hz hS hw (Nat.le_of_ble_eq_true rfl) (Nat.le_of_ble_eq_true rfl) dX20_at_90
      · have hw := hw.2 hc
        refine zr_aload_n (r := some h0) hx hb dX20_at_12 rfl (lv_at hl 0 rfl) ?_
        obtain ⟨a_9, ci_10, fs_11, r_12, er, he, hc, hv, hw⟩ := zgR_e hw
        refine zw_get hk hH er he hv (fk_X20_3 hc) dX20_at_13 ?_
        obtain ⟨a_13, ci_14, fs_15, r_16, er, he, hc, hv, hw⟩ := zgR_e hw
        refine zw_getN hk hH er he hv (fn_X20_21 hc) dX20_at_16 ?_
        refine zr_aload_n (r := some h0) hx hb dX20_at_19 rfl (lv_at hl 0 rfl) ?_
        obtain ⟨a_17, ci_18, fs_19, x_20, er, he, hc, hv, hw⟩ := zgI_e hw
        refine zw_getS hk hH er he hv (fs_X20_25 hc) dX20_at_20 ?_
        obtain ⟨a_21, n_22, f_23, er, he, hi, hw⟩ := zaR_e hw
        have hw := hw _ rfl
        refine zw_aald hk hH 9 er he rfl rfl hi dX20_at_23 ?_
        generalize f_23 x_20.toNatClampNeg = r_24 at hw ⊢
        obtain ⟨a_25, ci_26, fs_27, r_28, er, he, hc, hv, hw⟩ := zgR_e hw
        refine zw_get hk hH er he hv (fk_X20_29 hc) dX20_at_24 ?_
        refine lv_iload_n hx hb dX20_at_27 rfl (lv_at hl 3 rfl) ?_
        obtain ⟨a_29, n_30, f_31, er, he, hi, hw⟩ := zaI_e hw
        have hw := hw _ rfl
        refine zw_bald hk hH er he hi dX20_at_28 ?_
        generalize f_31 x_2.toNatClampNeg = x_32 at hw ⊢
        obtain ⟨P_83, hP_83, hw⟩ := hw
        have hJ_83 : ∀ (x_33 : Int32) (x_34 : Int32) (hp_35 : zHp) (nx_36 : Nat) (H : Heap) (locs : List Loc) (ls : Array Slot), P_83 x_33 x_34 hp_35 nx_36 → lv_has ls 4 [(0, va_rf (some h0)), (1, va_rf r1), (2, .int x_33), (3, .int x_34)] → zHd g hp_35 H → H.size = nx_36 → va_S (zAd g) s.heap H locs → W p l e (zrm (d + 1) 0 0) s m ([.ref h0, va_rf r1] : List Value).toArray below meth c H locs 0 0 (MQ below (zQi g Post) ([.ref h0, va_rf r1] : List Value).toArray s 0 0 (zAd g)) (F0 m 83 ls []) := by
          intro x_33 x_34 hp_35 nx_36 H locs ls hw hl hH hz hS
          have hw := hP_83 x_33 x_34 hp_35 nx_36 hw
          obtain ⟨x_37, ex_37⟩ : ∃ y : Int32, y = x_34 + (1 : Int32) := ⟨_, rfl⟩
          have hw := hw x_37 ex_37
          refine lv_iinc (v := x_37) (lv' := [(3, .int x_37), (0, va_rf (some h0)), (1, va_rf r1), (2, .int x_33)]) hx hb dX20_at_83 hl (k := 3) rfl (by rw [ex_37]; rfl) (by decide) (by first | rfl | simp [List.filter_cons, z_cat, z_catI, z_catJ, z_catF, z_catD]) (fun ls hl => ?_)
          refine lv_goto (tgt := 4) hx hb dX20_at_86 (by decide) ?_
          obtain ⟨k_38, hlt, hw⟩ := hw
          exact ih_4 k_38 hlt x_33 x_37 hp_35 nx_36 _ _ _ hw (lv_sub hl [1, 2, 3, 0] rfl) hH hz hS
        refine lv_if_eq (tgt := 35) hx hb dX20_at_29 (by decide) (fun hc => ?_) (fun hc => ?_)
        · have hw := hw.1 hc
          refine lv_iload_n hx hb dX20_at_35 rfl (lv_at hl 2 rfl) ?_
          refine lv_iconst (v := (-1 : Int32)) hx hb dX20_at_36 (by decide) ?_
          obtain ⟨P_81, hP_81, hw⟩ := hw
          have hJ_81 : ∀ (x_39 : Int32) (x_40 : Int32) (hp_41 : zHp) (nx_42 : Nat) (H : Heap) (locs : List Loc) (ls : Array Slot), P_81 x_39 x_40 hp_41 nx_42 → lv_has ls 4 [(0, va_rf (some h0)), (1, va_rf r1), (2, .int x_39), (3, .int x_40)] → zHd g hp_41 H → H.size = nx_42 → va_S (zAd g) s.heap H locs → W p l e (zrm (d + 1) 0 0) s m ([.ref h0, va_rf r1] : List Value).toArray below meth c H locs 0 0 (MQ below (zQi g Post) ([.ref h0, va_rf r1] : List Value).toArray s 0 0 (zAd g)) (F0 m 81 ls []) := by
            intro x_39 x_40 hp_41 nx_42 H locs ls hw hl hH hz hS
            have hw := hP_81 x_39 x_40 hp_41 nx_42 hw
            refine lv_iload_n hx hb dX20_at_81 rfl (lv_at hl 3 rfl) ?_
            refine lv_istore_n (i := 2) (lv' := [(2, .int x_40), (0, va_rf (some h0)), (1, va_rf r1), (3, .int x_40)]) hx hb dX20_at_82 rfl hl (by decide) (by first | rfl | simp [List.filter_cons, z_cat, z_catI, z_catJ, z_catF, z_catD]) (fun ls hl => ?_)
            exact hJ_83 x_40 x_40 hp_41 nx_42 _ _ _ hw (lv_sub hl [1, 2, 0, 3] rfl) hH hz hS
          refine lv_icmp_eq (tgt := 81) hx hb dX20_at_37 (by decide) (fun hc => ?_) (fun hc => ?_)
          · have hw := hw.1 hc
            exact hJ_81 x_1 x_2 hp_6 nx_7 _ _ _ hw hl hH hz hS
          · have hw := hw.2 hc
            refine zr_aload_n (r := some h0) hx hb dX20_at_40 rfl (lv_at hl 0 rfl) ?_
            refine zr_aload_n (r := some h0) hx hb dX20_at_41 rfl (lv_at hl 0 rfl) ?_
            obtain ⟨a_43, ci_44, fs_45, r_46, er, he, hc, hv, hw⟩ := zgR_e hw
            refine zw_get hk hH er he hv (fk_X20_3 hc) dX20_at_42 ?_
            obtain ⟨a_47, ci_48, fs_49, r_50, er, he, hc, hv, hw⟩ := zgR_e hw
            refine zw_getN hk hH er he hv (fn_X20_21 hc) dX20_at_45 ?_
            refine zr_aload_n (r := some h0) hx hb dX20_at_48 rfl (lv_at hl 0 rfl) ?_
            obtain ⟨a_51, ci_52, fs_53, x_54, er, he, hc, hv, hw⟩ := zgI_e hw
            refine zw_getS hk hH er he hv (fs_X20_25 hc) dX20_at_49 ?_
            obtain ⟨a_55, n_56, f_57, er, he, hi, hw⟩ := zaR_e hw
            have hw := hw _ rfl
            refine zw_aald hk hH 9 er he rfl rfl hi dX20_at_52 ?_
            generalize f_57 x_54.toNatClampNeg = r_58 at hw ⊢
            obtain ⟨a_59, ci_60, fs_61, r_62, er, he, hc, hv, hw⟩ := zgR_e hw
            refine zw_get hk hH er he hv (fk_X20_35 hc) dX20_at_53 ?_
            refine lv_iload_n hx hb dX20_at_56 rfl (lv_at hl 3 rfl) ?_
            obtain ⟨a_63, n_64, f_65, er, he, hi, hw⟩ := zaD_e hw
            have hw := hw _ rfl
            refine zw_dald hk hH er he hi dX20_at_57 ?_
            generalize f_65 x_2.toNatClampNeg = x_66 at hw ⊢
            refine zr_aload_n (r := some h0) hx hb dX20_at_58 rfl (lv_at hl 0 rfl) ?_
            obtain ⟨a_67, ci_68, fs_69, r_70, er, he, hc, hv, hw⟩ := zgR_e hw
            refine zw_get hk hH er he hv (fk_X20_3 hc) dX20_at_59 ?_
            obtain ⟨a_71, ci_72, fs_73, r_74, er, he, hc, hv, hw⟩ := zgR_e hw
            refine zw_getN hk hH er he hv (fn_X20_21 hc) dX20_at_62 ?_
            refine zr_aload_n (r := some h0) hx hb dX20_at_65 rfl (lv_at hl 0 rfl) ?_
            obtain ⟨a_75, ci_76, fs_77, x_78, er, he, hc, hv, hw⟩ := zgI_e hw
            refine zw_getS hk hH er he hv (fs_X20_25 hc) dX20_at_66 ?_
            obtain ⟨a_79, n_80, f_81, er, he, hi, hw⟩ := zaR_e hw
            have hw := hw _ rfl
            refine zw_aald hk hH 9 er he rfl rfl hi dX20_at_69 ?_
            generalize f_81 x_78.toNatClampNeg = r_82 at hw ⊢
            obtain ⟨a_83, ci_84, fs_85, r_86, er, he, hc, hv, hw⟩ := zgR_e hw
            refine zw_get hk hH er he hv (fk_X20_35 hc) dX20_at_70 ?_
            refine lv_iload_n hx hb dX20_at_73 rfl (lv_at hl 2 rfl) ?_
            obtain ⟨a_87, n_88, f_89, er, he, hi, hw⟩ := zaD_e hw
            have hw := hw _ rfl
            refine zw_dald hk hH er he hi dX20_at_74 ?_
            generalize f_89 x_1.toNatClampNeg = x_90 at hw ⊢
            obtain ⟨a_94, ci_95, fs_96, er, he, hc, PP_97, hPP, hw⟩ := zo_e hw
            have hC : ∀ (x_93 : Int32) (hp_91 : zHp) (nx_92 : Nat), PP_97 x_93 hp_91 nx_92 → ∀ (H : Heap) (locs : List Loc), zHd g hp_91 H → H.size = nx_92 → va_S (zAd g) s.heap H locs → W p l e (zrm (d + 1) 0 0) s m ([.ref h0, va_rf r1] : List Value).toArray below meth c H locs (0 + 0) (0 + 0) (MQ below (zQi g Post) ([.ref h0, va_rf r1] : List Value).toArray s 0 0 (zAd g)) (F0 m 78 ls [.int x_93]) := by
              intro x_93 hp_91 nx_92 hw H locs hH hz hS
              have hw := hPP x_93 hp_91 nx_92 hw
              refine lv_if_eq (tgt := 83) hx hb dX20_at_78 (by decide) (fun hc => ?_) (fun hc => ?_)
              · have hw := hw.1 hc
                exact hJ_83 x_1 x_2 hp_91 nx_92 _ _ _ hw hl hH hz hS
              · have hw := hw.2 hc
                exact hJ_81 x_1 x_2 hp_91 nx_92 _ _ _ hw hl hH hz hS
            simp only [List.mem_cons, List.not_mem_nil, or_false] at hc
            rcases hc with rfl | rfl
            · exact zr_calli (zw_runV (As := [.double x_66, .double x_90]) hk hH hz hS hl.1 er (hw.1 rfl) (cwV 2 hts (lw_V q2203 q2204 q2205 q184 q2211) rfl rfl rfl (by decide +kernel) (z_room (Nat.le_of_ble_eq_true rfl))) he rfl rfl rfl (Nat.le_of_ble_eq_true rfl) dX20_at_75 ⟨Nat.le_of_ble_eq_true rfl, Nat.le_of_ble_eq_true rfl⟩) hS hC
            · exact zr_calli (zw_runU (As := [.double x_66, .double x_90]) hk hH hz hS hl.1 er (hw.2 rfl) (va_cwO 2 hts (z_O q2203 q2206 q2204 q2207 q2208 q185 q2209) rfl rfl rfl q2211 (by decide +kernel) (z_room (Nat.le_of_ble_eq_true rfl))) he rfl rfl rfl (Nat.le_of_ble_eq_true rfl) dX20_at_75 ⟨Nat.le_of_ble_eq_true rfl, Nat.le_of_ble_eq_true rfl⟩) hS hC
        · have hw := hw.2 hc
          refine lv_goto (tgt := 83) hx hb dX20_at_32 (by decide) ?_
          exact hJ_83 x_1 x_2 hp_6 nx_7 _ _ _ hw hl hH hz hS
  exact hL_4 n_101 (-1 : Int32) (0 : Int32) hp nx _ _ _ hI (lv_sub hl [2, 3, 1, 0] rfl) hH hz hS
def wp_X20_isBefore (l : Launch) (g : zG) (d : Nat) (h0 : Nat) (x1 : UInt64) (x3 : UInt64) (hp : zHp) (nx : Nat) (Post : Int32 → zHp → Nat → Prop) : Prop :=
  (∃ P_11 : Int32 → Prop, (∀ (x_1 : Int32), P_11 x_1 →
  (((x_1 = 0 ∨ x_1 = 1) ∧ Post x_1 hp nx))) ∧
  ((0 ≤ (Op.cmpValue (FP.dcmp x1 x3) .g) →
  P_11 (0 : Int32)) ∧
  (¬ 0 ≤ (Op.cmpValue (FP.dcmp x1 x3) .g) →
  P_11 (1 : Int32))))
set_option maxHeartbeats 40000000 in
theorem met_X20_isBefore {l : Launch} {g : zG} {d : Nat} {h0 : Nat} {x1 : UInt64} {x3 : UInt64} {hp : zHp} {nx : Nat} {Post : Int32 → zHp → Nat → Prop} (hw : wp_X20_isBefore l g d h0 x1 x3 hp nx Post) : zMt l g yX20_isBefore cX20_isBefore 5 (some .boolean) (d + 1) 0 0 [.ref h0, .double x1, .double x3] hp nx (zQi g Post) := by
  refine z_start (by decide) (Nat.le_of_ble_eq_true rfl) ?_
  intro p e s m below meth c hk hr hin hH hz ls hl
  have hx := hk.1.1
  have hb := hk.1.2.1
  have hown := hk.1.2.2.2.1
  have hts := hk.1.2.2.2.2
  have hS : va_S (zAd g) s.heap s.heap [] := va_S.rf
  have hl : lv_has ls 5 [(0, va_rf (some h0)), (1, .double x1), (3, .double x3)] := hl
  unfold wp_X20_isBefore at hw
  refine lv_dload_n hx hb dX20_isBefore_0 rfl (lv_at hl 1 rfl) ?_
  refine lv_dload_n hx hb dX20_isBefore_1 rfl (lv_at hl 2 rfl) ?_
  refine lv_dcmp hx hb dX20_isBefore_2 ?_
  obtain ⟨P_11, hP_11, hw⟩ := hw
  have hJ_11 : ∀ (x_1 : Int32) (H : Heap) (locs : List Loc) (ls : Array Slot), P_11 x_1 → lv_has ls 5 [(0, va_rf (some h0)), (1, .double x1), (3, .double x3)] → zHd g hp H → H.size = nx → va_S (zAd g) s.heap H locs → W p l e (zrm (d + 1) 0 0) s m ([.ref h0, .double x1, .double x3] : List Value).toArray below meth c H locs 0 0 (MQ below (zQi g Post) ([.ref h0, .double x1, .double x3] : List Value).toArray s 0 0 (zAd g)) (F0 m 11 ls [.int x_1]) := by
    intro x_1 H locs ls hw hl hH hz hS
    have hw := hP_11 x_1 hw
    exact zr_zret hk hr hH hz hS hw.1 hw.2 (Nat.le_of_ble_eq_true rfl) (Nat.le_of_ble_eq_true rfl) dX20_isBefore_11
  refine lv_if_ge (tgt := 10) hx hb dX20_isBefore_3 (by decide) (fun hc => ?_) (fun hc => ?_)
  · have hw := hw.1 hc
    refine lv_iconst (v := (0 : Int32)) hx hb dX20_isBefore_10 (by decide) ?_
    exact hJ_11 (0 : Int32) _ _ _ hw hl hH hz hS
  · have hw := hw.2 hc
    refine lv_iconst (v := (1 : Int32)) hx hb dX20_isBefore_6 (by decide) ?_
    refine lv_goto (tgt := 11) hx hb dX20_isBefore_7 (by decide) ?_
    exact hJ_11 (1 : Int32) _ _ _ hw hl hH hz hS
theorem ff_X21_1 {ci : Nat} (h : ci ∈ [21]) : zFf "WhatIfSheet$Most" 1 ci 5 (.object "WhatIfSheet") := by
  simp only [List.mem_cons, List.not_mem_nil, or_false] at h
  rcases h with rfl
  · exact ⟨RX21, TX21, 6, rfl, by decide, q1779, rfl, rfl, by decide +kernel⟩
def wp_X21_init (l : Launch) (g : zG) (d : Nat) (h0 : Nat) (r1 : Option Nat) (x2 : Int32) (hp : zHp) (nx : Nat) (Post : zHp → Nat → Prop) : Prop :=
  (zpt g hp (some h0) [21] 5 (va_rf r1) fun hp_4 =>
  (zMt l g yX20_init cX20_init 3 none d 0 0 (.ref h0 :: [va_rf r1, .int x2]) hp_4 nx (zQv g fun hp_5 nx_6 =>
  (Post hp_5 nx_6))))
set_option maxHeartbeats 40000000 in
theorem met_X21_init {l : Launch} {g : zG} {d : Nat} {h0 : Nat} {r1 : Option Nat} {x2 : Int32} {hp : zHp} {nx : Nat} {Post : zHp → Nat → Prop} (hw : wp_X21_init l g d h0 r1 x2 hp nx Post) : zMt l g yX21_init cX21_init 3 none (d + 1) 0 0 [.ref h0, va_rf r1, .int x2] hp nx (zQv g Post) := by
  refine z_start (by decide) (by cases r1 <;> exact Nat.le_of_ble_eq_true rfl) ?_
  intro p e s m below meth c hk hr hin hH hz ls hl
  have hx := hk.1.1
  have hb := hk.1.2.1
  have hown := hk.1.2.2.2.1
  have hts := hk.1.2.2.2.2
  have hS : va_S (zAd g) s.heap s.heap [] := va_S.rf
  have hl : lv_has ls 3 [(0, va_rf (some h0)), (1, va_rf r1), (2, .int x2)] := by cases r1 <;> exact hl
  unfold wp_X21_init at hw
  refine zr_aload_n (r := some h0) hx hb dX21_init_0 rfl (lv_at hl 0 rfl) ?_
  refine zr_aload_n (r := r1) hx hb dX21_init_1 rfl (lv_at hl 1 rfl) ?_
  obtain ⟨a_1, ci_2, fs_3, hp_4, er, he, hc, hA, hkl, eh, hw⟩ := zpt_e hw
  refine zw_putF hk hin hH hz hS er he hA hkl eh (ff_X21_1 hc) (z_narR _ _) (z_fitR _ _) dX21_init_2 (fun H locs hH hz hS => ?_)
  refine zr_aload_n (r := some h0) hx hb dX21_init_5 rfl (lv_at hl 0 rfl) ?_
  refine zr_aload_n (r := r1) hx hb dX21_init_6 rfl (lv_at hl 1 rfl) ?_
  refine lv_iload_n hx hb dX21_init_7 rfl (lv_at hl 2 rfl) ?_
  refine zr_callv (zw_runI (As := [va_rf r1, .int x2]) (r := some h0) hk hH hz hS hl.1 rfl hw (cwI 2 hts (lw_meth q1763) rfl rfl rfl (hts _ q184) (hts _ q1778) (hts _ q1762) rfl (by decide +kernel) (z_room (Nat.le_of_ble_eq_true rfl))) rfl rfl (Nat.le_of_ble_eq_true rfl) dX21_init_8 ⟨Nat.le_of_ble_eq_true rfl, Nat.le_of_ble_eq_true rfl⟩) hS (fun hp_5 nx_6 hw H locs hH hz hS => ?_)
  exact zr_vret hk hr hH hz hS hw (Nat.le_of_ble_eq_true rfl) (Nat.le_of_ble_eq_true rfl) dX21_init_11
theorem cz_21 {ci : Nat} (h : ci ∈ [21]) : ∃ (C : String) (T : u_T) (N : Nat), zcl[ci]? = some (C, T, N) := by
  simp only [List.mem_cons, List.not_mem_nil, or_false] at h
  rcases h with rfl <;> exact ⟨_, _, _, rfl⟩
def wp_X21_isBefore (l : Launch) (g : zG) (d : Nat) (h0 : Nat) (x1 : UInt64) (x3 : UInt64) (hp : zHp) (nx : Nat) (Post : Int32 → zHp → Nat → Prop) : Prop :=
  (zo hp (some h0) [21] fun a_4 ci_5 fs_6 => zMt l g yX20_isBefore cX20_isBefore 5 (some .boolean) d 0 0 (.ref a_4 :: [.double x3, .double x1]) hp nx (zQi g fun x_3 hp_1 nx_2 =>
  (((x_3 = 0 ∨ x_3 = 1) ∧ Post x_3 hp_1 nx_2))))
set_option maxHeartbeats 40000000 in
theorem met_X21_isBefore {l : Launch} {g : zG} {d : Nat} {h0 : Nat} {x1 : UInt64} {x3 : UInt64} {hp : zHp} {nx : Nat} {Post : Int32 → zHp → Nat → Prop} (hw : wp_X21_isBefore l g d h0 x1 x3 hp nx Post) : zMt l g yX21_isBefore cX21_isBefore 5 (some .boolean) (d + 1) 0 0 [.ref h0, .double x1, .double x3] hp nx (zQi g Post) := by
  refine z_start (by decide) (Nat.le_of_ble_eq_true rfl) ?_
  intro p e s m below meth c hk hr hin hH hz ls hl
  have hx := hk.1.1
  have hb := hk.1.2.1
  have hown := hk.1.2.2.2.1
  have hts := hk.1.2.2.2.2
  have hS : va_S (zAd g) s.heap s.heap [] := va_S.rf
  have hl : lv_has ls 5 [(0, va_rf (some h0)), (1, .double x1), (3, .double x3)] := hl
  unfold wp_X21_isBefore at hw
  refine zr_aload_n (r := some h0) hx hb dX21_isBefore_0 rfl (lv_at hl 0 rfl) ?_
  refine lv_dload_n hx hb dX21_isBefore_1 rfl (lv_at hl 2 rfl) ?_
  refine lv_dload_n hx hb dX21_isBefore_2 rfl (lv_at hl 1 rfl) ?_
  obtain ⟨a_4, ci_5, fs_6, er, he, hc, hw⟩ := zo_e hw
  obtain ⟨C_, T_, N_, hcl_⟩ := cz_21 hc
  refine zr_calli (zw_runSU (C := C_) (As := [.double x3, .double x1]) hk hH hz hS hl.1 er hw (va_cwSU 2 hts (z_SU q2210 q2206 q1787 q2204 q184 q2211) rfl rfl rfl (by decide +kernel) (z_room (Nat.le_of_ble_eq_true rfl))) he hcl_ rfl rfl (Nat.le_of_ble_eq_true rfl) dX21_isBefore_3 ⟨Nat.le_of_ble_eq_true rfl, Nat.le_of_ble_eq_true rfl⟩) hS (fun x_3 hp_1 nx_2 hw H locs hH hz hS => ?_)
  exact zr_zret hk hr hH hz hS hw.1 hw.2 (Nat.le_of_ble_eq_true rfl) (Nat.le_of_ble_eq_true rfl) dX21_isBefore_6
theorem ff_X22_1 {ci : Nat} (h : ci ∈ [22]) : zFf "WhatIfSheet$Fails" 1 ci 3 (.object "WhatIfSheet") := by
  simp only [List.mem_cons, List.not_mem_nil, or_false] at h
  rcases h with rfl
  · exact ⟨RX22, TX22, 4, rfl, by decide, q1794, rfl, rfl, by decide +kernel⟩
def wp_X22_init (l : Launch) (g : zG) (d : Nat) (h0 : Nat) (r1 : Option Nat) (x2 : Int32) (hp : zHp) (nx : Nat) (Post : zHp → Nat → Prop) : Prop :=
  (zpt g hp (some h0) [22] 3 (va_rf r1) fun hp_4 =>
  (zMt l g yX18_init cX18_init 3 none d 0 0 (.ref h0 :: [va_rf r1, .int x2]) hp_4 nx (zQv g fun hp_5 nx_6 =>
  (Post hp_5 nx_6))))
set_option maxHeartbeats 40000000 in
theorem met_X22_init {l : Launch} {g : zG} {d : Nat} {h0 : Nat} {r1 : Option Nat} {x2 : Int32} {hp : zHp} {nx : Nat} {Post : zHp → Nat → Prop} (hw : wp_X22_init l g d h0 r1 x2 hp nx Post) : zMt l g yX22_init cX22_init 3 none (d + 1) 0 0 [.ref h0, va_rf r1, .int x2] hp nx (zQv g Post) := by
  refine z_start (by decide) (by cases r1 <;> exact Nat.le_of_ble_eq_true rfl) ?_
  intro p e s m below meth c hk hr hin hH hz ls hl
  have hx := hk.1.1
  have hb := hk.1.2.1
  have hown := hk.1.2.2.2.1
  have hts := hk.1.2.2.2.2
  have hS : va_S (zAd g) s.heap s.heap [] := va_S.rf
  have hl : lv_has ls 3 [(0, va_rf (some h0)), (1, va_rf r1), (2, .int x2)] := by cases r1 <;> exact hl
  unfold wp_X22_init at hw
  refine zr_aload_n (r := some h0) hx hb dX22_init_0 rfl (lv_at hl 0 rfl) ?_
  refine zr_aload_n (r := r1) hx hb dX22_init_1 rfl (lv_at hl 1 rfl) ?_
  obtain ⟨a_1, ci_2, fs_3, hp_4, er, he, hc, hA, hkl, eh, hw⟩ := zpt_e hw
  refine zw_putF hk hin hH hz hS er he hA hkl eh (ff_X22_1 hc) (z_narR _ _) (z_fitR _ _) dX22_init_2 (fun H locs hH hz hS => ?_)
  refine zr_aload_n (r := some h0) hx hb dX22_init_5 rfl (lv_at hl 0 rfl) ?_
  refine zr_aload_n (r := r1) hx hb dX22_init_6 rfl (lv_at hl 1 rfl) ?_
  refine lv_iload_n hx hb dX22_init_7 rfl (lv_at hl 2 rfl) ?_
  refine zr_callv (zw_runI (As := [va_rf r1, .int x2]) (r := some h0) hk hH hz hS hl.1 rfl hw (cwI 2 hts (lw_meth q1730) rfl rfl rfl (hts _ q182) (hts _ q1793) (hts _ q1729) rfl (by decide +kernel) (z_room (Nat.le_of_ble_eq_true rfl))) rfl rfl (Nat.le_of_ble_eq_true rfl) dX22_init_8 ⟨Nat.le_of_ble_eq_true rfl, Nat.le_of_ble_eq_true rfl⟩) hS (fun hp_5 nx_6 hw H locs hH hz hS => ?_)
  exact zr_vret hk hr hH hz hS hw (Nat.le_of_ble_eq_true rfl) (Nat.le_of_ble_eq_true rfl) dX22_init_11
theorem fk_X22_1 {ci : Nat} (h : ci ∈ [22]) : zFk "WhatIfSheet$Fails" 1 ci 3 := by
  simp only [List.mem_cons, List.not_mem_nil, or_false] at h
  rcases h with rfl
  · exact ⟨RX22, TX22, 4, rfl, by decide, q1794⟩
theorem fn_X22_19 {ci : Nat} (h : ci ∈ [0]) : zFkN "WhatIfSheet$Fails" 19 ci 5 := by
  simp only [List.mem_cons, List.not_mem_nil, or_false] at h
  rcases h with rfl
  · exact ⟨RX0, TX0, 30, "WhatIfSheet", rfl, by decide, q1213⟩
theorem fs_X22_25 {ci : Nat} (h : ci ∈ [18, 19, 20, 21, 22]) : zFkS "WhatIfSheet$Fails" 25 ci 1 := by
  simp only [List.mem_cons, List.not_mem_nil, or_false] at h
  rcases h with rfl | rfl | rfl | rfl | rfl
  · exact ⟨RX18, TX18, 3, "WhatIfSheet$Fails", rfl, by decide, q1735, q1736⟩
  · exact ⟨RX19, TX19, 4, "WhatIfSheet$Fails", rfl, by decide, q1735, q1736⟩
  · exact ⟨RX20, TX20, 5, "WhatIfSheet$Fails", rfl, by decide, q1735, q1736⟩
  · exact ⟨RX21, TX21, 6, "WhatIfSheet$Fails", rfl, by decide, q1735, q1736⟩
  · exact ⟨RX22, TX22, 4, "WhatIfSheet$Fails", rfl, by decide, q1735, q1736⟩
theorem fk_X22_29 {ci : Nat} (h : ci ∈ [1]) : zFk "WhatIfSheet$Fails" 29 ci 6 := by
  simp only [List.mem_cons, List.not_mem_nil, or_false] at h
  rcases h with rfl
  · exact ⟨RX1, TX1, 13, rfl, by decide, q234⟩
def wp_X22_of (l : Launch) (g : zG) (d : Nat) (h0 : Nat) (r1 : Option Nat) (hp : zHp) (nx : Nat) (Post : UInt64 → zHp → Nat → Prop) : Prop :=
  (∃ I_4 : Nat → Int32 → Int32 → zHp → Nat → Prop, (∃ n_45, I_4 n_45 (0 : Int32) (0 : Int32) hp nx) ∧ ∀ (n_5 : Nat) (x_1 : Int32) (x_2 : Int32) (hp_3 : zHp) (nx_4 : Nat), I_4 n_5 x_1 x_2 hp_3 nx_4 →
  (zo hp_3 r1 [31] fun a_42 ci_43 fs_44 => zMt l g yX31_cases cX31_cases 1 (some .int) d 0 0 (.ref a_42 :: []) hp_3 nx_4 (zQi g fun x_8 hp_6 nx_7 =>
  ((x_8 ≤ x_2 →
  (Post (FP.i2d x_1) hp_6 nx_7)) ∧
  (¬ x_8 ≤ x_2 →
  (zgR hp_6 (some h0) [22] 3 fun r_12 =>
  (zgR hp_6 r_12 [0] 5 fun r_16 =>
  (zgI hp_6 (some h0) [18, 19, 20, 21, 22] 1 fun x_20 =>
  (zaR (g.2.1 9) hp_6 r_16 fun a_21 n_22 f_23 => vp_in x_20 n_22 ∧ ∀ r_24 : Option Nat, r_24 = f_23 x_20.toNatClampNeg →
  (zgR hp_6 r_24 [1] 6 fun r_28 =>
  (zaI (g.2.1 2) hp_6 r_28 fun a_29 n_30 f_31 => vp_in x_2 n_30 ∧ ∀ x_32 : Int32, x_32 = f_31 x_2.toNatClampNeg →
  (∃ P_38 : Int32 → Int32 → Int32 → Int32 → zHp → Nat → Prop, (∀ (x_33 : Int32) (x_34 : Int32) (x_35 : Int32) (x_36 : Int32) (hp_37 : zHp) (nx_38 : Nat), P_38 x_33 x_34 x_35 x_36 hp_37 nx_38 →
  (∀ x_39 : Int32, x_39 = x_35 + x_36 →
  (∀ x_40 : Int32, x_40 = x_34 + (1 : Int32) →
  (∃ k_41, k_41 < n_5 ∧ I_4 k_41 x_39 x_40 hp_37 nx_38)))) ∧
  ((x_32 = 0 →
  P_38 x_1 x_2 x_1 (0 : Int32) hp_6 nx_7) ∧
  (¬ x_32 = 0 →
  P_38 x_1 x_2 x_1 (1 : Int32) hp_6 nx_7))))))))))))))
set_option maxHeartbeats 40000000 in
theorem met_X22_of {l : Launch} {g : zG} {d : Nat} {h0 : Nat} {r1 : Option Nat} {hp : zHp} {nx : Nat} {Post : UInt64 → zHp → Nat → Prop} (hw : wp_X22_of l g d h0 r1 hp nx Post) : zMt l g yX22_of cX22_of 4 (some .double) (d + 1) 0 0 [.ref h0, va_rf r1] hp nx (zQd g Post) := by
  refine z_start (by decide) (by cases r1 <;> exact Nat.le_of_ble_eq_true rfl) ?_
  intro p e s m below meth c hk hr hin hH hz ls hl
  have hx := hk.1.1
  have hb := hk.1.2.1
  have hown := hk.1.2.2.2.1
  have hts := hk.1.2.2.2.2
  have hS : va_S (zAd g) s.heap s.heap [] := va_S.rf
  have hl : lv_has ls 4 [(0, va_rf (some h0)), (1, va_rf r1)] := by cases r1 <;> exact hl
  unfold wp_X22_of at hw
  refine lv_iconst (v := (0 : Int32)) hx hb dX22_of_0 (by decide) ?_
  refine lv_istore_n (i := 2) (lv' := [(2, .int (0 : Int32)), (0, va_rf (some h0)), (1, va_rf r1)]) hx hb dX22_of_1 rfl hl (by decide) (by first | rfl | simp [List.filter_cons, z_cat, z_catI, z_catJ, z_catF, z_catD]) (fun ls hl => ?_)
  refine lv_iconst (v := (0 : Int32)) hx hb dX22_of_2 (by decide) ?_
  refine lv_istore_n (i := 3) (lv' := [(3, .int (0 : Int32)), (2, .int (0 : Int32)), (0, va_rf (some h0)), (1, va_rf r1)]) hx hb dX22_of_3 rfl hl (by decide) (by first | rfl | simp [List.filter_cons, z_cat, z_catI, z_catJ, z_catF, z_catD]) (fun ls hl => ?_)
  obtain ⟨I_4, ⟨n_45, hI⟩, hB_4⟩ := hw
  have hL_4 : ∀ (n_5 : Nat) (x_1 : Int32) (x_2 : Int32) (hp_3 : zHp) (nx_4 : Nat) (H : Heap) (locs : List Loc) (ls : Array Slot), I_4 n_5 x_1 x_2 hp_3 nx_4 → lv_has ls 4 [(0, va_rf (some h0)), (1, va_rf r1), (2, .int x_1), (3, .int x_2)] → zHd g hp_3 H → H.size = nx_4 → va_S (zAd g) s.heap H locs → W p l e (zrm (d + 1) 0 0) s m ([.ref h0, va_rf r1] : List Value).toArray below meth c H locs 0 0 (MQ below (zQd g Post) ([.ref h0, va_rf r1] : List Value).toArray s 0 0 (zAd g)) (F0 m 4 ls []) := by
    intro n_5
    induction n_5 using Nat.strongRecOn with
    | _ n_5 ih_4 =>
      intro x_1 x_2 hp_3 nx_4 H locs ls hw hl hH hz hS
      have hw := hB_4 n_5 x_1 x_2 hp_3 nx_4 hw
      refine lv_iload_n hx hb dX22_of_4 rfl (lv_at hl 3 rfl) ?_
      refine zr_aload_n (r := r1) hx hb dX22_of_5 rfl (lv_at hl 1 rfl) ?_
      obtain ⟨a_42, ci_43, fs_44, er, he, hc, hw⟩ := zo_e hw
      obtain rfl := List.mem_singleton.mp hc
      refine zr_calli (zw_runV (As := []) hk hH hz hS hl.1 er hw (cwV 0 hts (lw_V q2183 q1169 q1170 q195 q1171) rfl rfl rfl (by decide +kernel) (z_room (Nat.le_of_ble_eq_true rfl))) he rfl rfl rfl (Nat.le_of_ble_eq_true rfl) dX22_of_6 ⟨Nat.le_of_ble_eq_true rfl, Nat.le_of_ble_eq_true rfl⟩) hS (fun x_8 hp_6 nx_7 hw H locs hH hz hS => ?_)
      refine lv_icmp_ge (tgt := 46) hx hb dX22_of_9 (by decide) (fun hc => ?_) (fun hc => ?_)
      · have hw := hw.1 hc
        refine lv_iload_n hx hb dX22_of_46 rfl (lv_at hl 2 rfl) ?_
        refine lv_i2d hx hb dX22_of_47 ?_
        exact zr_dret hk hr hH hz hS hw (Nat.le_of_ble_eq_true rfl) (Nat.le_of_ble_eq_true rfl) dX22_of_48
      · have hw := hw.2 hc
        refine lv_iload_n hx hb dX22_of_12 rfl (lv_at hl 2 rfl) ?_
        refine zr_aload_n (r := some h0) hx hb dX22_of_13 rfl (lv_at hl 0 rfl) ?_
        obtain ⟨a_9, ci_10, fs_11, r_12, er, he, hc, hv, hw⟩ := zgR_e hw
        refine zw_get hk hH er he hv (fk_X22_1 hc) dX22_of_14 ?_
        obtain ⟨a_13, ci_14, fs_15, r_16, er, he, hc, hv, hw⟩ := zgR_e hw
        refine zw_getN hk hH er he hv (fn_X22_19 hc) dX22_of_17 ?_
        refine zr_aload_n (r := some h0) hx hb dX22_of_20 rfl (lv_at hl 0 rfl) ?_
        obtain ⟨a_17, ci_18, fs_19, x_20, er, he, hc, hv, hw⟩ := zgI_e hw
        refine zw_getS hk hH er he hv (fs_X22_25 hc) dX22_of_21 ?_
        obtain ⟨a_21, n_22, f_23, er, he, hi, hw⟩ := zaR_e hw
        have hw := hw _ rfl
        refine zw_aald hk hH 9 er he rfl rfl hi dX22_of_24 ?_
        generalize f_23 x_20.toNatClampNeg = r_24 at hw ⊢
        obtain ⟨a_25, ci_26, fs_27, r_28, er, he, hc, hv, hw⟩ := zgR_e hw
        refine zw_get hk hH er he hv (fk_X22_29 hc) dX22_of_25 ?_
        refine lv_iload_n hx hb dX22_of_28 rfl (lv_at hl 3 rfl) ?_
        obtain ⟨a_29, n_30, f_31, er, he, hi, hw⟩ := zaI_e hw
        have hw := hw _ rfl
        refine zw_bald hk hH er he hi dX22_of_29 ?_
        generalize f_31 x_2.toNatClampNeg = x_32 at hw ⊢
        obtain ⟨P_38, hP_38, hw⟩ := hw
        have hJ_38 : ∀ (x_33 : Int32) (x_34 : Int32) (x_35 : Int32) (x_36 : Int32) (hp_37 : zHp) (nx_38 : Nat) (H : Heap) (locs : List Loc) (ls : Array Slot), P_38 x_33 x_34 x_35 x_36 hp_37 nx_38 → lv_has ls 4 [(0, va_rf (some h0)), (1, va_rf r1), (2, .int x_33), (3, .int x_34)] → zHd g hp_37 H → H.size = nx_38 → va_S (zAd g) s.heap H locs → W p l e (zrm (d + 1) 0 0) s m ([.ref h0, va_rf r1] : List Value).toArray below meth c H locs 0 0 (MQ below (zQd g Post) ([.ref h0, va_rf r1] : List Value).toArray s 0 0 (zAd g)) (F0 m 38 ls [.int x_36, .int x_35]) := by
          intro x_33 x_34 x_35 x_36 hp_37 nx_38 H locs ls hw hl hH hz hS
          have hw := hP_38 x_33 x_34 x_35 x_36 hp_37 nx_38 hw
          refine lv_iadd hx hb dX22_of_38 ?_
          refine lv_topi (fun x_39 ex_39 => ?_)
          have hw := hw x_39 ex_39
          refine lv_istore_n (i := 2) (lv' := [(2, .int x_39), (0, va_rf (some h0)), (1, va_rf r1), (3, .int x_34)]) hx hb dX22_of_39 rfl hl (by decide) (by first | rfl | simp [List.filter_cons, z_cat, z_catI, z_catJ, z_catF, z_catD]) (fun ls hl => ?_)
          obtain ⟨x_40, ex_40⟩ : ∃ y : Int32, y = x_34 + (1 : Int32) := ⟨_, rfl⟩
          have hw := hw x_40 ex_40
          refine lv_iinc (v := x_40) (lv' := [(3, .int x_40), (2, .int x_39), (0, va_rf (some h0)), (1, va_rf r1)]) hx hb dX22_of_40 hl (k := 3) rfl (by rw [ex_40]; rfl) (by decide) (by first | rfl | simp [List.filter_cons, z_cat, z_catI, z_catJ, z_catF, z_catD]) (fun ls hl => ?_)
          refine lv_goto (tgt := 4) hx hb dX22_of_43 (by decide) ?_
          obtain ⟨k_41, hlt, hw⟩ := hw
          exact ih_4 k_41 hlt x_39 x_40 hp_37 nx_38 _ _ _ hw (lv_sub hl [2, 3, 1, 0] rfl) hH hz hS
        refine lv_if_eq (tgt := 37) hx hb dX22_of_30 (by decide) (fun hc => ?_) (fun hc => ?_)
        · have hw := hw.1 hc
          refine lv_iconst (v := (0 : Int32)) hx hb dX22_of_37 (by decide) ?_
          exact hJ_38 x_1 x_2 x_1 (0 : Int32) hp_6 nx_7 _ _ _ hw hl hH hz hS
        · have hw := hw.2 hc
          refine lv_iconst (v := (1 : Int32)) hx hb dX22_of_33 (by decide) ?_
          refine lv_goto (tgt := 38) hx hb dX22_of_34 (by decide) ?_
          exact hJ_38 x_1 x_2 x_1 (1 : Int32) hp_6 nx_7 _ _ _ hw hl hH hz hS
  exact hL_4 n_45 (0 : Int32) (0 : Int32) hp nx _ _ _ hI (lv_sub hl [2, 3, 1, 0] rfl) hH hz hS
theorem ff_X23_1 {ci : Nat} (h : ci ∈ [23]) : zFf "WhatIfSheet$Named" 1 ci 2 (.object "WhatIfSheet") := by
  simp only [List.mem_cons, List.not_mem_nil, or_false] at h
  rcases h with rfl
  · exact ⟨RX23, TX23, 3, rfl, by decide, q1822, rfl, rfl, by decide +kernel⟩
theorem ff_X23_13 {ci : Nat} (h : ci ∈ [23]) : zFf "WhatIfSheet$Named" 13 ci 1 .int := by
  simp only [List.mem_cons, List.not_mem_nil, or_false] at h
  rcases h with rfl
  · exact ⟨RX23, TX23, 3, rfl, by decide, q1821, rfl, rfl, by decide +kernel⟩
def wp_X23_init (l : Launch) (g : zG) (d : Nat) (h0 : Nat) (r1 : Option Nat) (x2 : Int32) (hp : zHp) (nx : Nat) (Post : zHp → Nat → Prop) : Prop :=
  (zpt g hp (some h0) [23] 2 (va_rf r1) fun hp_4 =>
  (zMt l g yX13_init cX13_init 2 none d 0 0 (.ref h0 :: [va_rf r1]) hp_4 nx (zQv g fun hp_5 nx_6 =>
  (zpt g hp_5 (some h0) [23] 1 (.int x2) fun hp_10 =>
  (Post hp_10 nx_6)))))
set_option maxHeartbeats 40000000 in
theorem met_X23_init {l : Launch} {g : zG} {d : Nat} {h0 : Nat} {r1 : Option Nat} {x2 : Int32} {hp : zHp} {nx : Nat} {Post : zHp → Nat → Prop} (hw : wp_X23_init l g d h0 r1 x2 hp nx Post) : zMt l g yX23_init cX23_init 3 none (d + 1) 0 0 [.ref h0, va_rf r1, .int x2] hp nx (zQv g Post) := by
  refine z_start (by decide) (by cases r1 <;> exact Nat.le_of_ble_eq_true rfl) ?_
  intro p e s m below meth c hk hr hin hH hz ls hl
  have hx := hk.1.1
  have hb := hk.1.2.1
  have hown := hk.1.2.2.2.1
  have hts := hk.1.2.2.2.2
  have hS : va_S (zAd g) s.heap s.heap [] := va_S.rf
  have hl : lv_has ls 3 [(0, va_rf (some h0)), (1, va_rf r1), (2, .int x2)] := by cases r1 <;> exact hl
  unfold wp_X23_init at hw
  refine zr_aload_n (r := some h0) hx hb dX23_init_0 rfl (lv_at hl 0 rfl) ?_
  refine zr_aload_n (r := r1) hx hb dX23_init_1 rfl (lv_at hl 1 rfl) ?_
  obtain ⟨a_1, ci_2, fs_3, hp_4, er, he, hc, hA, hkl, eh, hw⟩ := zpt_e hw
  refine zw_putF hk hin hH hz hS er he hA hkl eh (ff_X23_1 hc) (z_narR _ _) (z_fitR _ _) dX23_init_2 (fun H locs hH hz hS => ?_)
  refine zr_aload_n (r := some h0) hx hb dX23_init_5 rfl (lv_at hl 0 rfl) ?_
  refine zr_aload_n (r := r1) hx hb dX23_init_6 rfl (lv_at hl 1 rfl) ?_
  refine zr_callv (zw_runIN (As := [va_rf r1]) (r := some h0) hk hH hz hS hl.1 rfl hw ⟨va_cnB 1 hts (lw_meth q1576) rfl rfl rfl (hk.2.2.1.1 _ q1820 rfl) (hts _ q176) (by decide +kernel) (z_room (Nat.le_of_ble_eq_true rfl)), rfl, hts _ q1575⟩ rfl rfl (Nat.le_of_ble_eq_true rfl) dX23_init_7 ⟨Nat.le_of_ble_eq_true rfl, Nat.le_of_ble_eq_true rfl⟩) hS (fun hp_5 nx_6 hw H locs hH hz hS => ?_)
  refine zr_aload_n (r := some h0) hx hb dX23_init_10 rfl (lv_at hl 0 rfl) ?_
  refine lv_iload_n hx hb dX23_init_11 rfl (lv_at hl 2 rfl) ?_
  obtain ⟨a_7, ci_8, fs_9, hp_10, er, he, hc, hA, hkl, eh, hw⟩ := zpt_e hw
  refine zw_putF hk hin hH hz hS er he hA hkl eh (ff_X23_13 hc) rfl rfl dX23_init_12 (fun H locs hH hz hS => ?_)
  exact zr_vret hk hr hH hz hS hw (Nat.le_of_ble_eq_true rfl) (Nat.le_of_ble_eq_true rfl) dX23_init_15
theorem fk_X23_1 {ci : Nat} (h : ci ∈ [23]) : zFk "WhatIfSheet$Named" 1 ci 2 := by
  simp only [List.mem_cons, List.not_mem_nil, or_false] at h
  rcases h with rfl
  · exact ⟨RX23, TX23, 3, rfl, by decide, q1822⟩
theorem fk_X23_13 {ci : Nat} (h : ci ∈ [23]) : zFk "WhatIfSheet$Named" 13 ci 1 := by
  simp only [List.mem_cons, List.not_mem_nil, or_false] at h
  rcases h with rfl
  · exact ⟨RX23, TX23, 3, rfl, by decide, q1821⟩
def wp_X23_worth (l : Launch) (g : zG) (d : Nat) (h0 : Nat) (hp : zHp) (nx : Nat) (Post : UInt64 → zHp → Nat → Prop) : Prop :=
  (zgR hp (some h0) [23] 2 fun r_4 =>
  (zgI hp (some h0) [23] 1 fun x_8 =>
  (zo hp r_4 [0] fun a_12 ci_13 fs_14 => zMt l g yX0_tell cX0_tell 5 (some .double) d 0 0 (.ref a_12 :: [.int x_8]) hp nx (zQd g fun x_11 hp_9 nx_10 =>
  (Post x_11 hp_9 nx_10)))))
set_option maxHeartbeats 40000000 in
theorem met_X23_worth {l : Launch} {g : zG} {d : Nat} {h0 : Nat} {hp : zHp} {nx : Nat} {Post : UInt64 → zHp → Nat → Prop} (hw : wp_X23_worth l g d h0 hp nx Post) : zMt l g yX23_worth cX23_worth 1 (some .double) (d + 1) 0 0 [.ref h0] hp nx (zQd g Post) := by
  refine z_start (by decide) (Nat.le_of_ble_eq_true rfl) ?_
  intro p e s m below meth c hk hr hin hH hz ls hl
  have hx := hk.1.1
  have hb := hk.1.2.1
  have hown := hk.1.2.2.2.1
  have hts := hk.1.2.2.2.2
  have hS : va_S (zAd g) s.heap s.heap [] := va_S.rf
  have hl : lv_has ls 1 [(0, va_rf (some h0))] := hl
  unfold wp_X23_worth at hw
  refine zr_aload_n (r := some h0) hx hb dX23_worth_0 rfl (lv_at hl 0 rfl) ?_
  obtain ⟨a_1, ci_2, fs_3, r_4, er, he, hc, hv, hw⟩ := zgR_e hw
  refine zw_get hk hH er he hv (fk_X23_1 hc) dX23_worth_1 ?_
  refine zr_aload_n (r := some h0) hx hb dX23_worth_4 rfl (lv_at hl 0 rfl) ?_
  obtain ⟨a_5, ci_6, fs_7, x_8, er, he, hc, hv, hw⟩ := zgI_e hw
  refine zw_get hk hH er he hv (fk_X23_13 hc) dX23_worth_5 ?_
  obtain ⟨a_12, ci_13, fs_14, er, he, hc, hw⟩ := zo_e hw
  obtain rfl := List.mem_singleton.mp hc
  refine zr_calld (zw_runVN (As := [.int x_8]) hk hH hz hS hl.1 er hw ⟨va_cnB 1 hts (lw_meth q2134) rfl rfl rfl (hk.2.2.1.1 _ q2239 rfl) (hts _ q131) (by decide +kernel) (z_room (Nat.le_of_ble_eq_true rfl)), hts _ q2133, hts _ qs41⟩ he rfl rfl rfl (Nat.le_of_ble_eq_true rfl) dX23_worth_8 ⟨Nat.le_of_ble_eq_true rfl, Nat.le_of_ble_eq_true rfl⟩) hS (fun x_11 hp_9 nx_10 hw H locs hH hz hS => ?_)
  exact zr_dret hk hr hH hz hS hw (Nat.le_of_ble_eq_true rfl) (Nat.le_of_ble_eq_true rfl) dX23_worth_11
theorem ff_X24_1 {ci : Nat} (h : ci ∈ [24]) : zFf "WhatIfSheet$Number1" 1 ci 2 (.object "WhatIfSheet") := by
  simp only [List.mem_cons, List.not_mem_nil, or_false] at h
  rcases h with rfl
  · exact ⟨RX24, TX24, 3, rfl, by decide, q1837, rfl, rfl, by decide +kernel⟩
theorem ff_X24_13 {ci : Nat} (h : ci ∈ [24]) : zFf "WhatIfSheet$Number1" 13 ci 1 .double := by
  simp only [List.mem_cons, List.not_mem_nil, or_false] at h
  rcases h with rfl
  · exact ⟨RX24, TX24, 3, rfl, by decide, q1836, rfl, rfl, by decide +kernel⟩
def wp_X24_init (l : Launch) (g : zG) (d : Nat) (h0 : Nat) (r1 : Option Nat) (x2 : UInt64) (hp : zHp) (nx : Nat) (Post : zHp → Nat → Prop) : Prop :=
  (zpt g hp (some h0) [24] 2 (va_rf r1) fun hp_4 =>
  (zMt l g yX13_init cX13_init 2 none d 0 0 (.ref h0 :: [va_rf r1]) hp_4 nx (zQv g fun hp_5 nx_6 =>
  (zpt g hp_5 (some h0) [24] 1 (.double x2) fun hp_10 =>
  (Post hp_10 nx_6)))))
set_option maxHeartbeats 40000000 in
theorem met_X24_init {l : Launch} {g : zG} {d : Nat} {h0 : Nat} {r1 : Option Nat} {x2 : UInt64} {hp : zHp} {nx : Nat} {Post : zHp → Nat → Prop} (hw : wp_X24_init l g d h0 r1 x2 hp nx Post) : zMt l g yX24_init cX24_init 4 none (d + 1) 0 0 [.ref h0, va_rf r1, .double x2] hp nx (zQv g Post) := by
  refine z_start (by decide) (by cases r1 <;> exact Nat.le_of_ble_eq_true rfl) ?_
  intro p e s m below meth c hk hr hin hH hz ls hl
  have hx := hk.1.1
  have hb := hk.1.2.1
  have hown := hk.1.2.2.2.1
  have hts := hk.1.2.2.2.2
  have hS : va_S (zAd g) s.heap s.heap [] := va_S.rf
  have hl : lv_has ls 4 [(0, va_rf (some h0)), (1, va_rf r1), (2, .double x2)] := by cases r1 <;> exact hl
  unfold wp_X24_init at hw
  refine zr_aload_n (r := some h0) hx hb dX24_init_0 rfl (lv_at hl 0 rfl) ?_
  refine zr_aload_n (r := r1) hx hb dX24_init_1 rfl (lv_at hl 1 rfl) ?_
  obtain ⟨a_1, ci_2, fs_3, hp_4, er, he, hc, hA, hkl, eh, hw⟩ := zpt_e hw
  refine zw_putF hk hin hH hz hS er he hA hkl eh (ff_X24_1 hc) (z_narR _ _) (z_fitR _ _) dX24_init_2 (fun H locs hH hz hS => ?_)
  refine zr_aload_n (r := some h0) hx hb dX24_init_5 rfl (lv_at hl 0 rfl) ?_
  refine zr_aload_n (r := r1) hx hb dX24_init_6 rfl (lv_at hl 1 rfl) ?_
  refine zr_callv (zw_runIN (As := [va_rf r1]) (r := some h0) hk hH hz hS hl.1 rfl hw ⟨va_cnB 1 hts (lw_meth q1576) rfl rfl rfl (hk.2.2.1.1 _ q1835 rfl) (hts _ q176) (by decide +kernel) (z_room (Nat.le_of_ble_eq_true rfl)), rfl, hts _ q1575⟩ rfl rfl (Nat.le_of_ble_eq_true rfl) dX24_init_7 ⟨Nat.le_of_ble_eq_true rfl, Nat.le_of_ble_eq_true rfl⟩) hS (fun hp_5 nx_6 hw H locs hH hz hS => ?_)
  refine zr_aload_n (r := some h0) hx hb dX24_init_10 rfl (lv_at hl 0 rfl) ?_
  refine lv_dload_n hx hb dX24_init_11 rfl (lv_at hl 2 rfl) ?_
  obtain ⟨a_7, ci_8, fs_9, hp_10, er, he, hc, hA, hkl, eh, hw⟩ := zpt_e hw
  refine zw_putF hk hin hH hz hS er he hA hkl eh (ff_X24_13 hc) rfl rfl dX24_init_12 (fun H locs hH hz hS => ?_)
  exact zr_vret hk hr hH hz hS hw (Nat.le_of_ble_eq_true rfl) (Nat.le_of_ble_eq_true rfl) dX24_init_15
theorem fk_X24_13 {ci : Nat} (h : ci ∈ [24]) : zFk "WhatIfSheet$Number1" 13 ci 1 := by
  simp only [List.mem_cons, List.not_mem_nil, or_false] at h
  rcases h with rfl
  · exact ⟨RX24, TX24, 3, rfl, by decide, q1836⟩
def wp_X24_worth (l : Launch) (g : zG) (d : Nat) (h0 : Nat) (hp : zHp) (nx : Nat) (Post : UInt64 → zHp → Nat → Prop) : Prop :=
  (zgD hp (some h0) [24] 1 fun x_4 =>
  (Post x_4 hp nx))
set_option maxHeartbeats 40000000 in
theorem met_X24_worth {l : Launch} {g : zG} {d : Nat} {h0 : Nat} {hp : zHp} {nx : Nat} {Post : UInt64 → zHp → Nat → Prop} (hw : wp_X24_worth l g d h0 hp nx Post) : zMt l g yX24_worth cX24_worth 1 (some .double) (d + 1) 0 0 [.ref h0] hp nx (zQd g Post) := by
  refine z_start (by decide) (Nat.le_of_ble_eq_true rfl) ?_
  intro p e s m below meth c hk hr hin hH hz ls hl
  have hx := hk.1.1
  have hb := hk.1.2.1
  have hown := hk.1.2.2.2.1
  have hts := hk.1.2.2.2.2
  have hS : va_S (zAd g) s.heap s.heap [] := va_S.rf
  have hl : lv_has ls 1 [(0, va_rf (some h0))] := hl
  unfold wp_X24_worth at hw
  refine zr_aload_n (r := some h0) hx hb dX24_worth_0 rfl (lv_at hl 0 rfl) ?_
  obtain ⟨a_1, ci_2, fs_3, x_4, er, he, hc, hv, hw⟩ := zgD_e hw
  refine zw_get hk hH er he hv (fk_X24_13 hc) dX24_worth_1 ?_
  exact zr_dret hk hr hH hz hS hw (Nat.le_of_ble_eq_true rfl) (Nat.le_of_ble_eq_true rfl) dX24_worth_4
theorem ff_X25_1 {ci : Nat} (h : ci ∈ [25]) : zFf "WhatIfSheet$Minus" 1 ci 2 (.object "WhatIfSheet") := by
  simp only [List.mem_cons, List.not_mem_nil, or_false] at h
  rcases h with rfl
  · exact ⟨RX25, TX25, 3, rfl, by decide, q1851, rfl, rfl, by decide +kernel⟩
theorem ff_X25_13 {ci : Nat} (h : ci ∈ [25]) : zFf "WhatIfSheet$Minus" 13 ci 1 (.object "WhatIfSheet$Node") := by
  simp only [List.mem_cons, List.not_mem_nil, or_false] at h
  rcases h with rfl
  · exact ⟨RX25, TX25, 3, rfl, by decide, q1850, rfl, rfl, by decide +kernel⟩
def wp_X25_init (l : Launch) (g : zG) (d : Nat) (h0 : Nat) (r1 : Option Nat) (r2 : Option Nat) (hp : zHp) (nx : Nat) (Post : zHp → Nat → Prop) : Prop :=
  (zpt g hp (some h0) [25] 2 (va_rf r1) fun hp_4 =>
  (zMt l g yX13_init cX13_init 2 none d 0 0 (.ref h0 :: [va_rf r1]) hp_4 nx (zQv g fun hp_5 nx_6 =>
  (zpt g hp_5 (some h0) [25] 1 (va_rf r2) fun hp_10 =>
  (Post hp_10 nx_6)))))
set_option maxHeartbeats 40000000 in
theorem met_X25_init {l : Launch} {g : zG} {d : Nat} {h0 : Nat} {r1 : Option Nat} {r2 : Option Nat} {hp : zHp} {nx : Nat} {Post : zHp → Nat → Prop} (hw : wp_X25_init l g d h0 r1 r2 hp nx Post) : zMt l g yX25_init cX25_init 3 none (d + 1) 0 0 [.ref h0, va_rf r1, va_rf r2] hp nx (zQv g Post) := by
  refine z_start (by decide) (by cases r1 <;> cases r2 <;> exact Nat.le_of_ble_eq_true rfl) ?_
  intro p e s m below meth c hk hr hin hH hz ls hl
  have hx := hk.1.1
  have hb := hk.1.2.1
  have hown := hk.1.2.2.2.1
  have hts := hk.1.2.2.2.2
  have hS : va_S (zAd g) s.heap s.heap [] := va_S.rf
  have hl : lv_has ls 3 [(0, va_rf (some h0)), (1, va_rf r1), (2, va_rf r2)] := by cases r1 <;> cases r2 <;> exact hl
  unfold wp_X25_init at hw
  refine zr_aload_n (r := some h0) hx hb dX25_init_0 rfl (lv_at hl 0 rfl) ?_
  refine zr_aload_n (r := r1) hx hb dX25_init_1 rfl (lv_at hl 1 rfl) ?_
  obtain ⟨a_1, ci_2, fs_3, hp_4, er, he, hc, hA, hkl, eh, hw⟩ := zpt_e hw
  refine zw_putF hk hin hH hz hS er he hA hkl eh (ff_X25_1 hc) (z_narR _ _) (z_fitR _ _) dX25_init_2 (fun H locs hH hz hS => ?_)
  refine zr_aload_n (r := some h0) hx hb dX25_init_5 rfl (lv_at hl 0 rfl) ?_
  refine zr_aload_n (r := r1) hx hb dX25_init_6 rfl (lv_at hl 1 rfl) ?_
  refine zr_callv (zw_runIN (As := [va_rf r1]) (r := some h0) hk hH hz hS hl.1 rfl hw ⟨va_cnB 1 hts (lw_meth q1576) rfl rfl rfl (hk.2.2.1.1 _ q1849 rfl) (hts _ q176) (by decide +kernel) (z_room (Nat.le_of_ble_eq_true rfl)), rfl, hts _ q1575⟩ rfl rfl (Nat.le_of_ble_eq_true rfl) dX25_init_7 ⟨Nat.le_of_ble_eq_true rfl, Nat.le_of_ble_eq_true rfl⟩) hS (fun hp_5 nx_6 hw H locs hH hz hS => ?_)
  refine zr_aload_n (r := some h0) hx hb dX25_init_10 rfl (lv_at hl 0 rfl) ?_
  refine zr_aload_n (r := r2) hx hb dX25_init_11 rfl (lv_at hl 2 rfl) ?_
  obtain ⟨a_7, ci_8, fs_9, hp_10, er, he, hc, hA, hkl, eh, hw⟩ := zpt_e hw
  refine zw_putF hk hin hH hz hS er he hA hkl eh (ff_X25_13 hc) (z_narR _ _) (z_fitR _ _) dX25_init_12 (fun H locs hH hz hS => ?_)
  exact zr_vret hk hr hH hz hS hw (Nat.le_of_ble_eq_true rfl) (Nat.le_of_ble_eq_true rfl) dX25_init_15
theorem fk_X25_13 {ci : Nat} (h : ci ∈ [25]) : zFk "WhatIfSheet$Minus" 13 ci 1 := by
  simp only [List.mem_cons, List.not_mem_nil, or_false] at h
  rcases h with rfl
  · exact ⟨RX25, TX25, 3, rfl, by decide, q1850⟩
def wp_X25_worth (l : Launch) (g : zG) (d : Nat) (h0 : Nat) (hp : zHp) (nx : Nat) (Post : UInt64 → zHp → Nat → Prop) : Prop :=
  (zgR hp (some h0) [25] 1 fun r_4 =>
  (zo hp r_4 [14, 16, 17, 18, 19, 20, 21, 22, 23, 24, 25, 26, 27, 29] fun a_8 ci_9 fs_10 => ∃ PP_11 : UInt64 → zHp → Nat → Prop, (∀ (x_7 : UInt64) (hp_5 : zHp) (nx_6 : Nat), PP_11 x_7 hp_5 nx_6 →
  (Post (FP.dneg x_7) hp_5 nx_6)) ∧ ((ci_9 = 14 → zMt l g yX14_worth cX14_worth 11 (some .double) d 0 0 (.ref a_8 :: []) hp nx (zQd g PP_11)) ∧ (ci_9 = 16 → zMt l g yX15_worth cX15_worth 5 (some .double) d 0 0 (.ref a_8 :: []) hp nx (zQd g PP_11)) ∧ (ci_9 = 17 → zMt l g yX15_worth cX15_worth 5 (some .double) d 0 0 (.ref a_8 :: []) hp nx (zQd g PP_11)) ∧ (ci_9 = 18 → zMt l g yX18_worth cX18_worth 2 (some .double) d 0 0 (.ref a_8 :: []) hp nx (zQd g PP_11)) ∧ (ci_9 = 19 → zMt l g yX18_worth cX18_worth 2 (some .double) d 0 0 (.ref a_8 :: []) hp nx (zQd g PP_11)) ∧ (ci_9 = 20 → zMt l g yX18_worth cX18_worth 2 (some .double) d 0 0 (.ref a_8 :: []) hp nx (zQd g PP_11)) ∧ (ci_9 = 21 → zMt l g yX18_worth cX18_worth 2 (some .double) d 0 0 (.ref a_8 :: []) hp nx (zQd g PP_11)) ∧ (ci_9 = 22 → zMt l g yX18_worth cX18_worth 2 (some .double) d 0 0 (.ref a_8 :: []) hp nx (zQd g PP_11)) ∧ (ci_9 = 23 → zMt l g yX23_worth cX23_worth 1 (some .double) d 0 0 (.ref a_8 :: []) hp nx (zQd g PP_11)) ∧ (ci_9 = 24 → zMt l g yX24_worth cX24_worth 1 (some .double) d 0 0 (.ref a_8 :: []) hp nx (zQd g PP_11)) ∧ (ci_9 = 25 → zMt l g yX25_worth cX25_worth 1 (some .double) d 0 0 (.ref a_8 :: []) hp nx (zQd g PP_11)) ∧ (ci_9 = 26 → zMt l g yX26_worth cX26_worth 4 (some .double) d 0 0 (.ref a_8 :: []) hp nx (zQd g PP_11)) ∧ (ci_9 = 27 → zMt l g yX26_worth cX26_worth 4 (some .double) d 0 0 (.ref a_8 :: []) hp nx (zQd g PP_11)) ∧ (ci_9 = 29 → zMt l g yX15_worth cX15_worth 5 (some .double) d 0 0 (.ref a_8 :: []) hp nx (zQd g PP_11)))))
set_option maxHeartbeats 40000000 in
theorem met_X25_worth {l : Launch} {g : zG} {d : Nat} {h0 : Nat} {hp : zHp} {nx : Nat} {Post : UInt64 → zHp → Nat → Prop} (hw : wp_X25_worth l g d h0 hp nx Post) : zMt l g yX25_worth cX25_worth 1 (some .double) (d + 1) 0 0 [.ref h0] hp nx (zQd g Post) := by
  refine z_start (by decide) (Nat.le_of_ble_eq_true rfl) ?_
  intro p e s m below meth c hk hr hin hH hz ls hl
  have hx := hk.1.1
  have hb := hk.1.2.1
  have hown := hk.1.2.2.2.1
  have hts := hk.1.2.2.2.2
  have hS : va_S (zAd g) s.heap s.heap [] := va_S.rf
  have hl : lv_has ls 1 [(0, va_rf (some h0))] := hl
  unfold wp_X25_worth at hw
  refine zr_aload_n (r := some h0) hx hb dX25_worth_0 rfl (lv_at hl 0 rfl) ?_
  obtain ⟨a_1, ci_2, fs_3, r_4, er, he, hc, hv, hw⟩ := zgR_e hw
  refine zw_get hk hH er he hv (fk_X25_13 hc) dX25_worth_1 ?_
  obtain ⟨a_8, ci_9, fs_10, er, he, hc, PP_11, hPP, hw⟩ := zo_e hw
  have hC : ∀ (x_7 : UInt64) (hp_5 : zHp) (nx_6 : Nat), PP_11 x_7 hp_5 nx_6 → ∀ (H : Heap) (locs : List Loc), zHd g hp_5 H → H.size = nx_6 → va_S (zAd g) s.heap H locs → W p l e (zrm (d + 1) 0 0) s m ([.ref h0] : List Value).toArray below meth c H locs (0 + 0) (0 + 0) (MQ below (zQd g Post) ([.ref h0] : List Value).toArray s 0 0 (zAd g)) (F0 m 7 ls [.double x_7]) := by
    intro x_7 hp_5 nx_6 hw H locs hH hz hS
    have hw := hPP x_7 hp_5 nx_6 hw
    refine lv_dneg hx hb dX25_worth_7 ?_
    exact zr_dret hk hr hH hz hS hw (Nat.le_of_ble_eq_true rfl) (Nat.le_of_ble_eq_true rfl) dX25_worth_8
  simp only [List.mem_cons, List.not_mem_nil, or_false] at hc
  rcases hc with rfl | rfl | rfl | rfl | rfl | rfl | rfl | rfl | rfl | rfl | rfl | rfl | rfl | rfl
  · exact zr_calld (zw_runU (As := []) hk hH hz hS hl.1 er (hw.1 rfl) (va_cwA 0 hts (z_U q2236 q2146 q2288 q2242 q177 q2243) rfl rfl rfl (hk.2.2.1.1 _ q2145 rfl) (by decide +kernel) (z_room (Nat.le_of_ble_eq_true rfl))) he rfl rfl rfl (Nat.le_of_ble_eq_true rfl) dX25_worth_4 ⟨Nat.le_of_ble_eq_true rfl, Nat.le_of_ble_eq_true rfl⟩) hS hC
  · exact zr_calld (zw_runU (As := []) hk hH hz hS hl.1 er (hw.2.1 rfl) (va_cwA 0 hts (z_U q2236 q2146 q2282 q2231 q178 q2232) rfl rfl rfl (hk.2.2.1.1 _ q2145 rfl) (by decide +kernel) (z_room (Nat.le_of_ble_eq_true rfl))) he rfl rfl rfl (Nat.le_of_ble_eq_true rfl) dX25_worth_4 ⟨Nat.le_of_ble_eq_true rfl, Nat.le_of_ble_eq_true rfl⟩) hS hC
  · exact zr_calld (zw_runU (As := []) hk hH hz hS hl.1 er (hw.2.2.1 rfl) (va_cwA 0 hts (z_U q2236 q2146 q2280 q2231 q178 q2232) rfl rfl rfl (hk.2.2.1.1 _ q2145 rfl) (by decide +kernel) (z_room (Nat.le_of_ble_eq_true rfl))) he rfl rfl rfl (Nat.le_of_ble_eq_true rfl) dX25_worth_4 ⟨Nat.le_of_ble_eq_true rfl, Nat.le_of_ble_eq_true rfl⟩) hS hC
  · exact zr_calld (zw_runU (As := []) hk hH hz hS hl.1 er (hw.2.2.2.1 rfl) (va_cwA 0 hts (z_U q2236 q2146 q2147 q2148 q182 q2149) rfl rfl rfl (hk.2.2.1.1 _ q2145 rfl) (by decide +kernel) (z_room (Nat.le_of_ble_eq_true rfl))) he rfl rfl rfl (Nat.le_of_ble_eq_true rfl) dX25_worth_4 ⟨Nat.le_of_ble_eq_true rfl, Nat.le_of_ble_eq_true rfl⟩) hS hC
  · exact zr_calld (zw_runU (As := []) hk hH hz hS hl.1 er (hw.2.2.2.2.1 rfl) (va_cwA 0 hts (z_U q2236 q2146 q2283 q2148 q182 q2149) rfl rfl rfl (hk.2.2.1.1 _ q2145 rfl) (by decide +kernel) (z_room (Nat.le_of_ble_eq_true rfl))) he rfl rfl rfl (Nat.le_of_ble_eq_true rfl) dX25_worth_4 ⟨Nat.le_of_ble_eq_true rfl, Nat.le_of_ble_eq_true rfl⟩) hS hC
  · exact zr_calld (zw_runU (As := []) hk hH hz hS hl.1 er (hw.2.2.2.2.2.1 rfl) (va_cwA 0 hts (z_U q2236 q2146 q2281 q2148 q182 q2149) rfl rfl rfl (hk.2.2.1.1 _ q2145 rfl) (by decide +kernel) (z_room (Nat.le_of_ble_eq_true rfl))) he rfl rfl rfl (Nat.le_of_ble_eq_true rfl) dX25_worth_4 ⟨Nat.le_of_ble_eq_true rfl, Nat.le_of_ble_eq_true rfl⟩) hS hC
  · exact zr_calld (zw_runU (As := []) hk hH hz hS hl.1 er (hw.2.2.2.2.2.2.1 rfl) (va_cwA 0 hts (z_U q2236 q2146 q2285 q2148 q182 q2149) rfl rfl rfl (hk.2.2.1.1 _ q2145 rfl) (by decide +kernel) (z_room (Nat.le_of_ble_eq_true rfl))) he rfl rfl rfl (Nat.le_of_ble_eq_true rfl) dX25_worth_4 ⟨Nat.le_of_ble_eq_true rfl, Nat.le_of_ble_eq_true rfl⟩) hS hC
  · exact zr_calld (zw_runU (As := []) hk hH hz hS hl.1 er (hw.2.2.2.2.2.2.2.1 rfl) (va_cwA 0 hts (z_U q2236 q2146 q2279 q2148 q182 q2149) rfl rfl rfl (hk.2.2.1.1 _ q2145 rfl) (by decide +kernel) (z_room (Nat.le_of_ble_eq_true rfl))) he rfl rfl rfl (Nat.le_of_ble_eq_true rfl) dX25_worth_4 ⟨Nat.le_of_ble_eq_true rfl, Nat.le_of_ble_eq_true rfl⟩) hS hC
  · exact zr_calld (zw_runU (As := []) hk hH hz hS hl.1 er (hw.2.2.2.2.2.2.2.2.1 rfl) (va_cwA 0 hts (z_U q2236 q2146 q2286 q2237 q187 q2238) rfl rfl rfl (hk.2.2.1.1 _ q2145 rfl) (by decide +kernel) (z_room (Nat.le_of_ble_eq_true rfl))) he rfl rfl rfl (Nat.le_of_ble_eq_true rfl) dX25_worth_4 ⟨Nat.le_of_ble_eq_true rfl, Nat.le_of_ble_eq_true rfl⟩) hS hC
  · exact zr_calld (zw_runU (As := []) hk hH hz hS hl.1 er (hw.2.2.2.2.2.2.2.2.2.1 rfl) (va_cwA 0 hts (z_U q2236 q2146 q2287 q2240 q188 q2241) rfl rfl rfl (hk.2.2.1.1 _ q2145 rfl) (by decide +kernel) (z_room (Nat.le_of_ble_eq_true rfl))) he rfl rfl rfl (Nat.le_of_ble_eq_true rfl) dX25_worth_4 ⟨Nat.le_of_ble_eq_true rfl, Nat.le_of_ble_eq_true rfl⟩) hS hC
  · exact zr_calld (zw_runU (As := []) hk hH hz hS hl.1 er (hw.2.2.2.2.2.2.2.2.2.2.1 rfl) (va_cwA 0 hts (z_U q2236 q2146 q2284 q2234 q189 q2235) rfl rfl rfl (hk.2.2.1.1 _ q2145 rfl) (by decide +kernel) (z_room (Nat.le_of_ble_eq_true rfl))) he rfl rfl rfl (Nat.le_of_ble_eq_true rfl) dX25_worth_4 ⟨Nat.le_of_ble_eq_true rfl, Nat.le_of_ble_eq_true rfl⟩) hS hC
  · exact zr_calld (zw_runU (As := []) hk hH hz hS hl.1 er (hw.2.2.2.2.2.2.2.2.2.2.2.1 rfl) (va_cwA 0 hts (z_U q2236 q2146 q2289 q2245 q190 q2246) rfl rfl rfl (hk.2.2.1.1 _ q2145 rfl) (by decide +kernel) (z_room (Nat.le_of_ble_eq_true rfl))) he rfl rfl rfl (Nat.le_of_ble_eq_true rfl) dX25_worth_4 ⟨Nat.le_of_ble_eq_true rfl, Nat.le_of_ble_eq_true rfl⟩) hS hC
  · exact zr_calld (zw_runU (As := []) hk hH hz hS hl.1 er (hw.2.2.2.2.2.2.2.2.2.2.2.2.1 rfl) (va_cwA 0 hts (z_U q2236 q2146 q2290 q2245 q190 q2246) rfl rfl rfl (hk.2.2.1.1 _ q2145 rfl) (by decide +kernel) (z_room (Nat.le_of_ble_eq_true rfl))) he rfl rfl rfl (Nat.le_of_ble_eq_true rfl) dX25_worth_4 ⟨Nat.le_of_ble_eq_true rfl, Nat.le_of_ble_eq_true rfl⟩) hS hC
  · exact zr_calld (zw_runU (As := []) hk hH hz hS hl.1 er (hw.2.2.2.2.2.2.2.2.2.2.2.2.2 rfl) (va_cwA 0 hts (z_U q2236 q2146 q2230 q2231 q178 q2232) rfl rfl rfl (hk.2.2.1.1 _ q2145 rfl) (by decide +kernel) (z_room (Nat.le_of_ble_eq_true rfl))) he rfl rfl rfl (Nat.le_of_ble_eq_true rfl) dX25_worth_4 ⟨Nat.le_of_ble_eq_true rfl, Nat.le_of_ble_eq_true rfl⟩) hS hC
theorem ff_X26_1 {ci : Nat} (h : ci ∈ [26, 27]) : zFf "WhatIfSheet$Sum" 1 ci 4 (.object "WhatIfSheet") := by
  simp only [List.mem_cons, List.not_mem_nil, or_false] at h
  rcases h with rfl | rfl
  · exact ⟨RX26, TX26, 5, rfl, by decide, q1871, rfl, rfl, by decide +kernel⟩
  · exact ⟨RX27, TX27, 6, rfl, by decide, q1871, rfl, rfl, by decide +kernel⟩
theorem ff_X26_13 {ci : Nat} (h : ci ∈ [26, 27]) : zFf "WhatIfSheet$Sum" 13 ci 1 (.object "WhatIfSheet$Node") := by
  simp only [List.mem_cons, List.not_mem_nil, or_false] at h
  rcases h with rfl | rfl
  · exact ⟨RX26, TX26, 5, rfl, by decide, q1868, rfl, rfl, by decide +kernel⟩
  · exact ⟨RX27, TX27, 6, rfl, by decide, q1868, rfl, rfl, by decide +kernel⟩
def wp_X26_init (l : Launch) (g : zG) (d : Nat) (h0 : Nat) (r1 : Option Nat) (r2 : Option Nat) (hp : zHp) (nx : Nat) (Post : zHp → Nat → Prop) : Prop :=
  (zpt g hp (some h0) [26, 27] 4 (va_rf r1) fun hp_4 =>
  (zMt l g yX13_init cX13_init 2 none d 0 0 (.ref h0 :: [va_rf r1]) hp_4 nx (zQv g fun hp_5 nx_6 =>
  (zpt g hp_5 (some h0) [26, 27] 1 (va_rf r2) fun hp_10 =>
  (Post hp_10 nx_6)))))
set_option maxHeartbeats 40000000 in
theorem met_X26_init {l : Launch} {g : zG} {d : Nat} {h0 : Nat} {r1 : Option Nat} {r2 : Option Nat} {hp : zHp} {nx : Nat} {Post : zHp → Nat → Prop} (hw : wp_X26_init l g d h0 r1 r2 hp nx Post) : zMt l g yX26_init cX26_init 3 none (d + 1) 0 0 [.ref h0, va_rf r1, va_rf r2] hp nx (zQv g Post) := by
  refine z_start (by decide) (by cases r1 <;> cases r2 <;> exact Nat.le_of_ble_eq_true rfl) ?_
  intro p e s m below meth c hk hr hin hH hz ls hl
  have hx := hk.1.1
  have hb := hk.1.2.1
  have hown := hk.1.2.2.2.1
  have hts := hk.1.2.2.2.2
  have hS : va_S (zAd g) s.heap s.heap [] := va_S.rf
  have hl : lv_has ls 3 [(0, va_rf (some h0)), (1, va_rf r1), (2, va_rf r2)] := by cases r1 <;> cases r2 <;> exact hl
  unfold wp_X26_init at hw
  refine zr_aload_n (r := some h0) hx hb dX26_init_0 rfl (lv_at hl 0 rfl) ?_
  refine zr_aload_n (r := r1) hx hb dX26_init_1 rfl (lv_at hl 1 rfl) ?_
  obtain ⟨a_1, ci_2, fs_3, hp_4, er, he, hc, hA, hkl, eh, hw⟩ := zpt_e hw
  refine zw_putF hk hin hH hz hS er he hA hkl eh (ff_X26_1 hc) (z_narR _ _) (z_fitR _ _) dX26_init_2 (fun H locs hH hz hS => ?_)
  refine zr_aload_n (r := some h0) hx hb dX26_init_5 rfl (lv_at hl 0 rfl) ?_
  refine zr_aload_n (r := r1) hx hb dX26_init_6 rfl (lv_at hl 1 rfl) ?_
  refine zr_callv (zw_runIN (As := [va_rf r1]) (r := some h0) hk hH hz hS hl.1 rfl hw ⟨va_cnB 1 hts (lw_meth q1576) rfl rfl rfl (hk.2.2.1.1 _ q1866 rfl) (hts _ q176) (by decide +kernel) (z_room (Nat.le_of_ble_eq_true rfl)), rfl, hts _ q1575⟩ rfl rfl (Nat.le_of_ble_eq_true rfl) dX26_init_7 ⟨Nat.le_of_ble_eq_true rfl, Nat.le_of_ble_eq_true rfl⟩) hS (fun hp_5 nx_6 hw H locs hH hz hS => ?_)
  refine zr_aload_n (r := some h0) hx hb dX26_init_10 rfl (lv_at hl 0 rfl) ?_
  refine zr_aload_n (r := r2) hx hb dX26_init_11 rfl (lv_at hl 2 rfl) ?_
  obtain ⟨a_7, ci_8, fs_9, hp_10, er, he, hc, hA, hkl, eh, hw⟩ := zpt_e hw
  refine zw_putF hk hin hH hz hS er he hA hkl eh (ff_X26_13 hc) (z_narR _ _) (z_fitR _ _) dX26_init_12 (fun H locs hH hz hS => ?_)
  exact zr_vret hk hr hH hz hS hw (Nat.le_of_ble_eq_true rfl) (Nat.le_of_ble_eq_true rfl) dX26_init_15
theorem no_X26_17 : zNo "WhatIfSheet$Sum" 17 28 := ⟨RX28, TX28, 3, rfl, q1890, q1891, q192⟩
theorem fk_X26_22 {ci : Nat} (h : ci ∈ [26, 27]) : zFk "WhatIfSheet$Sum" 22 ci 3 := by
  simp only [List.mem_cons, List.not_mem_nil, or_false] at h
  rcases h with rfl | rfl
  · exact ⟨RX26, TX26, 5, rfl, by decide, q1870⟩
  · exact ⟨RX27, TX27, 6, rfl, by decide, q1870⟩
theorem fp_X26_22 {ci : Nat} (h : ci ∈ [26, 27]) : zFp "WhatIfSheet$Sum" 22 ci 3 (.object "WhatIfSheet$Link") := by
  simp only [List.mem_cons, List.not_mem_nil, or_false] at h
  rcases h with rfl | rfl
  · exact ⟨RX26, TX26, 5, rfl, by decide, q1870, rfl, by decide +kernel⟩
  · exact ⟨RX27, TX27, 6, rfl, by decide, q1870, rfl, by decide +kernel⟩
theorem fp_X26_29 {ci : Nat} (h : ci ∈ [28]) : zFp "WhatIfSheet$Sum" 29 ci 2 (.object "WhatIfSheet$Link") := by
  simp only [List.mem_cons, List.not_mem_nil, or_false] at h
  rcases h with rfl
  · exact ⟨RX28, TX28, 3, rfl, by decide, q1900, rfl, by decide +kernel⟩
theorem fp_X26_26 {ci : Nat} (h : ci ∈ [26, 27]) : zFp "WhatIfSheet$Sum" 26 ci 2 (.object "WhatIfSheet$Link") := by
  simp only [List.mem_cons, List.not_mem_nil, or_false] at h
  rcases h with rfl | rfl
  · exact ⟨RX26, TX26, 5, rfl, by decide, q1869, rfl, by decide +kernel⟩
  · exact ⟨RX27, TX27, 6, rfl, by decide, q1869, rfl, by decide +kernel⟩
def wp_X26_more (l : Launch) (g : zG) (d : Nat) (mc ms : Nat) (h0 : Nat) (x1 : Int32) (r2 : Option Nat) (hp : zHp) (nx : Nat) (Post : zHp → Nat → Prop) : Prop :=
  (znw g mc ms hp nx 0 0 28 fun hp_1 =>
  ∀ nx_2 kc_3 ks_4 : Nat, nx_2 = (nx + 1) → kc_3 = (0 + 1) → ks_4 = (0 + zNn 28) →
  (kc_3 ≤ mc ∧ ks_4 ≤ ms ∧ zMt l g yX28_init cX28_init 3 none d 0 0 (.ref nx :: [.int x1, va_rf r2]) hp_1 nx_2 (zQv g fun hp_5 nx_6 =>
  (zgR hp_5 (some h0) [26, 27] 3 fun r_10 =>
  (∃ P_33 : (Option Nat) → zHp → Nat → Nat → Nat → Prop, (∀ (r_11 : Option Nat) (hp_12 : zHp) (nx_13 : Nat) (kc_14 : Nat) (ks_15 : Nat), P_33 r_11 hp_12 nx_13 kc_14 ks_15 →
  (zpt g hp_12 (some h0) [26, 27] 3 (va_rf r_11) fun hp_19 =>
  (kc_14 ≤ mc ∧ ks_15 ≤ ms ∧ Post hp_19 nx_13))) ∧
  ((r_10 = none →
  (zpt g hp_5 (some h0) [26, 27] 2 (va_rf (some nx)) fun hp_31 =>
  P_33 (some nx) hp_31 nx_6 kc_3 ks_4)) ∧
  (¬ r_10 = none →
  (zgR hp_5 (some h0) [26, 27] 3 fun r_23 =>
  (zpt g hp_5 r_23 [28] 2 (va_rf (some nx)) fun hp_27 =>
  P_33 (some nx) hp_27 nx_6 kc_3 ks_4)))))))))
set_option maxHeartbeats 40000000 in
theorem met_X26_more {l : Launch} {g : zG} {d : Nat} {mc ms : Nat} {h0 : Nat} {x1 : Int32} {r2 : Option Nat} {hp : zHp} {nx : Nat} {Post : zHp → Nat → Prop} (hw : wp_X26_more l g d mc ms h0 x1 r2 hp nx Post) : zMt l g yX26_more cX26_more 4 none (d + 1) mc ms [.ref h0, .int x1, va_rf r2] hp nx (zQv g Post) := by
  refine z_start (by decide) (by cases r2 <;> exact Nat.le_of_ble_eq_true rfl) ?_
  intro p e s m below meth c hk hr hin hH hz ls hl
  have hx := hk.1.1
  have hb := hk.1.2.1
  have hown := hk.1.2.2.2.1
  have hts := hk.1.2.2.2.2
  have hS : va_S (zAd g) s.heap s.heap [] := va_S.rf
  have hl : lv_has ls 4 [(0, va_rf (some h0)), (1, .int x1), (2, va_rf r2)] := by cases r2 <;> exact hl
  unfold wp_X26_more at hw
  obtain ⟨hcl, hsl, hw⟩ := hw
  refine zx_new hk hH hz hS (ci := 28) no_X26_17 hcl hsl dX26_more_0 (fun H hH hz hS hlt hnb => ?_)
  have hw := hw hlt hnb
  generalize va_up hp nx _ = hp_1 at hH hw
  obtain ⟨kc_3, ekc⟩ : ∃ k, k = (0 + 1) := ⟨_, rfl⟩
  obtain ⟨ks_4, eks⟩ : ∃ k, k = (0 + zNn 28) := ⟨_, rfl⟩
  have hw := hw _ _ _ rfl ekc eks
  refine W.widen (Nat.le_of_eq ekc.symm) (Nat.le_of_eq eks.symm) ?_
  clear ekc eks
  generalize (nx + 1) = nx_2 at hz hw
  refine lv_dup hx hb dX26_more_3 (z_cat _) ?_
  refine lv_iload_n hx hb dX26_more_4 rfl (lv_at hl 1 rfl) ?_
  refine zr_aload_n (r := r2) hx hb dX26_more_5 rfl (lv_at hl 2 rfl) ?_
  obtain ⟨hcl, hsl, hw⟩ := hw
  refine zr_callv (zw_runI (As := [.int x1, va_rf r2]) (r := some nx) hk hH hz hS hl.1 rfl hw (cwI 2 hts (lw_meth q1894) rfl rfl rfl (hts _ q192) (hts _ q1892) (hts _ q1893) rfl (by decide +kernel) (z_room (Nat.le_of_ble_eq_true rfl))) rfl rfl (by simp only [List.map_cons, List.map_nil, z_cat]; exact Nat.le_of_ble_eq_true rfl) dX26_more_6 ⟨hcl, hsl⟩) hS (fun hp_5 nx_6 hw H locs hH hz hS => ?_)
  refine zr_astore_n (r := some nx) (i := 3) (lv' := [(3, va_rf (some nx)), (0, va_rf (some h0)), (1, .int x1), (2, va_rf r2)]) hx hb dX26_more_9 rfl hl (by decide) (by first | rfl | simp [List.filter_cons, z_cat, z_catI, z_catJ, z_catF, z_catD]) (fun ls hl => ?_)
  refine zr_aload_n (r := some h0) hx hb dX26_more_10 rfl (lv_at hl 1 rfl) ?_
  obtain ⟨a_7, ci_8, fs_9, r_10, er, he, hc, hv, hw⟩ := zgR_e hw
  refine zw_get hk hH er he hv (fk_X26_22 hc) dX26_more_11 ?_
  obtain ⟨P_33, hP_33, hw⟩ := hw
  have hJ_33 : ∀ (r_11 : Option Nat) (hp_12 : zHp) (nx_13 : Nat) (kc_14 : Nat) (ks_15 : Nat) (H : Heap) (locs : List Loc) (ls : Array Slot), P_33 r_11 hp_12 nx_13 kc_14 ks_15 → lv_has ls 4 [(0, va_rf (some h0)), (1, .int x1), (2, va_rf r2), (3, va_rf r_11)] → zHd g hp_12 H → H.size = nx_13 → va_S (zAd g) s.heap H locs → W p l e (zrm (d + 1) mc ms) s m ([.ref h0, .int x1, va_rf r2] : List Value).toArray below meth c H locs kc_14 ks_15 (MQ below (zQv g Post) ([.ref h0, .int x1, va_rf r2] : List Value).toArray s mc ms (zAd g)) (F0 m 33 ls []) := by
    intro r_11 hp_12 nx_13 kc_14 ks_15 H locs ls hw hl hH hz hS
    have hw := hP_33 r_11 hp_12 nx_13 kc_14 ks_15 hw
    refine zr_aload_n (r := some h0) hx hb dX26_more_33 rfl (lv_at hl 0 rfl) ?_
    refine zr_aload_n (r := r_11) hx hb dX26_more_34 rfl (lv_at hl 3 rfl) ?_
    obtain ⟨a_16, ci_17, fs_18, hp_19, er, he, hc, hA, hkl, eh, hw⟩ := zpt_e hw
    refine zw_put hk hH hz hS er he hA hkl eh (fp_X26_22 hc) (z_narR _ _) (z_fitR _ _) dX26_more_35 (fun H locs hH hz hS => ?_)
    obtain ⟨hkc, hks, hw⟩ := hw
    exact zr_vret hk hr hH hz hS hw hkc hks dX26_more_38
  refine zr_ifnonnull (r := r_10) (tgt := 25) hx hb dX26_more_14 (by decide) (fun hc => ?_) (fun hc => ?_)
  · have hw := hw.2 hc
    refine zr_aload_n (r := some h0) hx hb dX26_more_25 rfl (lv_at hl 1 rfl) ?_
    obtain ⟨a_20, ci_21, fs_22, r_23, er, he, hc, hv, hw⟩ := zgR_e hw
    refine zw_get hk hH er he hv (fk_X26_22 hc) dX26_more_26 ?_
    refine zr_aload_n (r := some nx) hx hb dX26_more_29 rfl (lv_at hl 0 rfl) ?_
    obtain ⟨a_24, ci_25, fs_26, hp_27, er, he, hc, hA, hkl, eh, hw⟩ := zpt_e hw
    refine zw_put hk hH hz hS er he hA hkl eh (fp_X26_29 hc) (z_narR _ _) (z_fitR _ _) dX26_more_30 (fun H locs hH hz hS => ?_)
    exact hJ_33 (some nx) hp_27 nx_6 kc_3 ks_4 _ _ _ hw (lv_sub hl [1, 2, 3, 0] rfl) hH hz hS
  · have hw := hw.1 hc
    refine zr_aload_n (r := some h0) hx hb dX26_more_17 rfl (lv_at hl 1 rfl) ?_
    refine zr_aload_n (r := some nx) hx hb dX26_more_18 rfl (lv_at hl 0 rfl) ?_
    obtain ⟨a_28, ci_29, fs_30, hp_31, er, he, hc, hA, hkl, eh, hw⟩ := zpt_e hw
    refine zw_put hk hH hz hS er he hA hkl eh (fp_X26_26 hc) (z_narR _ _) (z_fitR _ _) dX26_more_19 (fun H locs hH hz hS => ?_)
    refine lv_goto (tgt := 33) hx hb dX26_more_22 (by decide) ?_
    exact hJ_33 (some nx) hp_31 nx_6 kc_3 ks_4 _ _ _ hw (lv_sub hl [1, 2, 3, 0] rfl) hH hz hS
theorem fk_X26_13 {ci : Nat} (h : ci ∈ [26, 27]) : zFk "WhatIfSheet$Sum" 13 ci 1 := by
  simp only [List.mem_cons, List.not_mem_nil, or_false] at h
  rcases h with rfl | rfl
  · exact ⟨RX26, TX26, 5, rfl, by decide, q1868⟩
  · exact ⟨RX27, TX27, 6, rfl, by decide, q1868⟩
theorem fk_X26_26 {ci : Nat} (h : ci ∈ [26, 27]) : zFk "WhatIfSheet$Sum" 26 ci 2 := by
  simp only [List.mem_cons, List.not_mem_nil, or_false] at h
  rcases h with rfl | rfl
  · exact ⟨RX26, TX26, 5, rfl, by decide, q1869⟩
  · exact ⟨RX27, TX27, 6, rfl, by decide, q1869⟩
theorem fk_X26_42 {ci : Nat} (h : ci ∈ [28]) : zFk "WhatIfSheet$Sum" 42 ci 0 := by
  simp only [List.mem_cons, List.not_mem_nil, or_false] at h
  rcases h with rfl
  · exact ⟨RX28, TX28, 3, rfl, by decide, q1897⟩
theorem fk_X26_46 {ci : Nat} (h : ci ∈ [28]) : zFk "WhatIfSheet$Sum" 46 ci 1 := by
  simp only [List.mem_cons, List.not_mem_nil, or_false] at h
  rcases h with rfl
  · exact ⟨RX28, TX28, 3, rfl, by decide, q1899⟩
theorem fk_X26_29 {ci : Nat} (h : ci ∈ [28]) : zFk "WhatIfSheet$Sum" 29 ci 2 := by
  simp only [List.mem_cons, List.not_mem_nil, or_false] at h
  rcases h with rfl
  · exact ⟨RX28, TX28, 3, rfl, by decide, q1900⟩
def wp_X26_worth (l : Launch) (g : zG) (d : Nat) (h0 : Nat) (hp : zHp) (nx : Nat) (Post : UInt64 → zHp → Nat → Prop) : Prop :=
  (zgR hp (some h0) [26, 27] 1 fun r_4 =>
  (zo hp r_4 [14, 16, 17, 18, 19, 20, 21, 22, 23, 24, 25, 26, 27, 29] fun a_45 ci_46 fs_47 => ∃ PP_48 : UInt64 → zHp → Nat → Prop, (∀ (x_7 : UInt64) (hp_5 : zHp) (nx_6 : Nat), PP_48 x_7 hp_5 nx_6 →
  (zgR hp_5 (some h0) [26, 27] 2 fun r_11 =>
  (∃ I_13 : Nat → UInt64 → (Option Nat) → zHp → Nat → Prop, (∃ n_44, I_13 n_44 x_7 r_11 hp_5 nx_6) ∧ ∀ (n_16 : Nat) (x_12 : UInt64) (r_13 : Option Nat) (hp_14 : zHp) (nx_15 : Nat), I_13 n_16 x_12 r_13 hp_14 nx_15 →
  ((r_13 = none →
  (Post x_12 hp_14 nx_15)) ∧
  (¬ r_13 = none →
  (zgI hp_14 r_13 [28] 0 fun x_20 =>
  (zgR hp_14 r_13 [28] 1 fun r_24 =>
  (zo hp_14 r_24 [14, 16, 17, 18, 19, 20, 21, 22, 23, 24, 25, 26, 27, 29] fun a_40 ci_41 fs_42 => ∃ PP_43 : UInt64 → zHp → Nat → Prop, (∀ (x_27 : UInt64) (hp_25 : zHp) (nx_26 : Nat), PP_43 x_27 hp_25 nx_26 →
  (zo hp_25 (some h0) [26, 27] fun a_36 ci_37 fs_38 => ∃ PP_39 : UInt64 → zHp → Nat → Prop, (∀ (x_30 : UInt64) (hp_28 : zHp) (nx_29 : Nat), PP_39 x_30 hp_28 nx_29 →
  (zgR hp_28 r_13 [28] 2 fun r_34 =>
  (∃ k_35, k_35 < n_16 ∧ I_13 k_35 x_30 r_34 hp_28 nx_29))) ∧ ((ci_37 = 26 → zMt l g yX26_joins cX26_joins 6 (some .double) d 0 0 (.ref a_36 :: [.double x_12, .int x_20, .double x_27]) hp_25 nx_26 (zQd g PP_39)) ∧ (ci_37 = 27 → zMt l g yX27_joins cX27_joins 6 (some .double) d 0 0 (.ref a_36 :: [.double x_12, .int x_20, .double x_27]) hp_25 nx_26 (zQd g PP_39))))) ∧ ((ci_41 = 14 → zMt l g yX14_worth cX14_worth 11 (some .double) d 0 0 (.ref a_40 :: []) hp_14 nx_15 (zQd g PP_43)) ∧ (ci_41 = 16 → zMt l g yX15_worth cX15_worth 5 (some .double) d 0 0 (.ref a_40 :: []) hp_14 nx_15 (zQd g PP_43)) ∧ (ci_41 = 17 → zMt l g yX15_worth cX15_worth 5 (some .double) d 0 0 (.ref a_40 :: []) hp_14 nx_15 (zQd g PP_43)) ∧ (ci_41 = 18 → zMt l g yX18_worth cX18_worth 2 (some .double) d 0 0 (.ref a_40 :: []) hp_14 nx_15 (zQd g PP_43)) ∧ (ci_41 = 19 → zMt l g yX18_worth cX18_worth 2 (some .double) d 0 0 (.ref a_40 :: []) hp_14 nx_15 (zQd g PP_43)) ∧ (ci_41 = 20 → zMt l g yX18_worth cX18_worth 2 (some .double) d 0 0 (.ref a_40 :: []) hp_14 nx_15 (zQd g PP_43)) ∧ (ci_41 = 21 → zMt l g yX18_worth cX18_worth 2 (some .double) d 0 0 (.ref a_40 :: []) hp_14 nx_15 (zQd g PP_43)) ∧ (ci_41 = 22 → zMt l g yX18_worth cX18_worth 2 (some .double) d 0 0 (.ref a_40 :: []) hp_14 nx_15 (zQd g PP_43)) ∧ (ci_41 = 23 → zMt l g yX23_worth cX23_worth 1 (some .double) d 0 0 (.ref a_40 :: []) hp_14 nx_15 (zQd g PP_43)) ∧ (ci_41 = 24 → zMt l g yX24_worth cX24_worth 1 (some .double) d 0 0 (.ref a_40 :: []) hp_14 nx_15 (zQd g PP_43)) ∧ (ci_41 = 25 → zMt l g yX25_worth cX25_worth 1 (some .double) d 0 0 (.ref a_40 :: []) hp_14 nx_15 (zQd g PP_43)) ∧ (ci_41 = 26 → zMt l g yX26_worth cX26_worth 4 (some .double) d 0 0 (.ref a_40 :: []) hp_14 nx_15 (zQd g PP_43)) ∧ (ci_41 = 27 → zMt l g yX26_worth cX26_worth 4 (some .double) d 0 0 (.ref a_40 :: []) hp_14 nx_15 (zQd g PP_43)) ∧ (ci_41 = 29 → zMt l g yX15_worth cX15_worth 5 (some .double) d 0 0 (.ref a_40 :: []) hp_14 nx_15 (zQd g PP_43))))))))))) ∧ ((ci_46 = 14 → zMt l g yX14_worth cX14_worth 11 (some .double) d 0 0 (.ref a_45 :: []) hp nx (zQd g PP_48)) ∧ (ci_46 = 16 → zMt l g yX15_worth cX15_worth 5 (some .double) d 0 0 (.ref a_45 :: []) hp nx (zQd g PP_48)) ∧ (ci_46 = 17 → zMt l g yX15_worth cX15_worth 5 (some .double) d 0 0 (.ref a_45 :: []) hp nx (zQd g PP_48)) ∧ (ci_46 = 18 → zMt l g yX18_worth cX18_worth 2 (some .double) d 0 0 (.ref a_45 :: []) hp nx (zQd g PP_48)) ∧ (ci_46 = 19 → zMt l g yX18_worth cX18_worth 2 (some .double) d 0 0 (.ref a_45 :: []) hp nx (zQd g PP_48)) ∧ (ci_46 = 20 → zMt l g yX18_worth cX18_worth 2 (some .double) d 0 0 (.ref a_45 :: []) hp nx (zQd g PP_48)) ∧ (ci_46 = 21 → zMt l g yX18_worth cX18_worth 2 (some .double) d 0 0 (.ref a_45 :: []) hp nx (zQd g PP_48)) ∧ (ci_46 = 22 → zMt l g yX18_worth cX18_worth 2 (some .double) d 0 0 (.ref a_45 :: []) hp nx (zQd g PP_48)) ∧ (ci_46 = 23 → zMt l g yX23_worth cX23_worth 1 (some .double) d 0 0 (.ref a_45 :: []) hp nx (zQd g PP_48)) ∧ (ci_46 = 24 → zMt l g yX24_worth cX24_worth 1 (some .double) d 0 0 (.ref a_45 :: []) hp nx (zQd g PP_48)) ∧ (ci_46 = 25 → zMt l g yX25_worth cX25_worth 1 (some .double) d 0 0 (.ref a_45 :: []) hp nx (zQd g PP_48)) ∧ (ci_46 = 26 → zMt l g yX26_worth cX26_worth 4 (some .double) d 0 0 (.ref a_45 :: []) hp nx (zQd g PP_48)) ∧ (ci_46 = 27 → zMt l g yX26_worth cX26_worth 4 (some .double) d 0 0 (.ref a_45 :: []) hp nx (zQd g PP_48)) ∧ (ci_46 = 29 → zMt l g yX15_worth cX15_worth 5 (some .double) d 0 0 (.ref a_45 :: []) hp nx (zQd g PP_48)))))
set_option maxHeartbeats 40000000 in
theorem met_X26_worth {l : Launch} {g : zG} {d : Nat} {h0 : Nat} {hp : zHp} {nx : Nat} {Post : UInt64 → zHp → Nat → Prop} (hw : wp_X26_worth l g d h0 hp nx Post) : zMt l g yX26_worth cX26_worth 4 (some .double) (d + 1) 0 0 [.ref h0] hp nx (zQd g Post) := by
  refine z_start (by decide) (Nat.le_of_ble_eq_true rfl) ?_
  intro p e s m below meth c hk hr hin hH hz ls hl
  have hx := hk.1.1
  have hb := hk.1.2.1
  have hown := hk.1.2.2.2.1
  have hts := hk.1.2.2.2.2
  have hS : va_S (zAd g) s.heap s.heap [] := va_S.rf
  have hl : lv_has ls 4 [(0, va_rf (some h0))] := hl
  unfold wp_X26_worth at hw
  refine zr_aload_n (r := some h0) hx hb dX26_worth_0 rfl (lv_at hl 0 rfl) ?_
  obtain ⟨a_1, ci_2, fs_3, r_4, er, he, hc, hv, hw⟩ := zgR_e hw
  refine zw_get hk hH er he hv (fk_X26_13 hc) dX26_worth_1 ?_
  obtain ⟨a_45, ci_46, fs_47, er, he, hc, PP_48, hPP, hw⟩ := zo_e hw
  have hC : ∀ (x_7 : UInt64) (hp_5 : zHp) (nx_6 : Nat), PP_48 x_7 hp_5 nx_6 → ∀ (H : Heap) (locs : List Loc), zHd g hp_5 H → H.size = nx_6 → va_S (zAd g) s.heap H locs → W p l e (zrm (d + 1) 0 0) s m ([.ref h0] : List Value).toArray below meth c H locs (0 + 0) (0 + 0) (MQ below (zQd g Post) ([.ref h0] : List Value).toArray s 0 0 (zAd g)) (F0 m 7 ls [.double x_7]) := by
    intro x_7 hp_5 nx_6 hw H locs hH hz hS
    have hw := hPP x_7 hp_5 nx_6 hw
    refine lv_dstore_n (i := 1) (lv' := [(1, .double x_7), (0, va_rf (some h0))]) hx hb dX26_worth_7 rfl hl (by decide) (by first | rfl | simp [List.filter_cons, z_cat, z_catI, z_catJ, z_catF, z_catD]) (fun ls hl => ?_)
    refine zr_aload_n (r := some h0) hx hb dX26_worth_8 rfl (lv_at hl 1 rfl) ?_
    obtain ⟨a_8, ci_9, fs_10, r_11, er, he, hc, hv, hw⟩ := zgR_e hw
    refine zw_get hk hH er he hv (fk_X26_26 hc) dX26_worth_9 ?_
    refine zr_astore_n (r := r_11) (i := 3) (lv' := [(3, va_rf r_11), (1, .double x_7), (0, va_rf (some h0))]) hx hb dX26_worth_12 rfl hl (by decide) (by first | rfl | simp [List.filter_cons, z_cat, z_catI, z_catJ, z_catF, z_catD]) (fun ls hl => ?_)
    obtain ⟨I_13, ⟨n_44, hI⟩, hB_13⟩ := hw
    have hL_13 : ∀ (n_16 : Nat) (x_12 : UInt64) (r_13 : Option Nat) (hp_14 : zHp) (nx_15 : Nat) (H : Heap) (locs : List Loc) (ls : Array Slot), I_13 n_16 x_12 r_13 hp_14 nx_15 → lv_has ls 4 [(0, va_rf (some h0)), (1, .double x_12), (3, va_rf r_13)] → zHd g hp_14 H → H.size = nx_15 → va_S (zAd g) s.heap H locs → W p l e (zrm (d + 1) 0 0) s m ([.ref h0] : List Value).toArray below meth c H locs 0 0 (MQ below (zQd g Post) ([.ref h0] : List Value).toArray s 0 0 (zAd g)) (F0 m 13 ls []) := by
      intro n_16
      induction n_16 using Nat.strongRecOn with
      | _ n_16 ih_13 =>
        intro x_12 r_13 hp_14 nx_15 H locs ls hw hl hH hz hS
        have hw := hB_13 n_16 x_12 r_13 hp_14 nx_15 hw
        refine zr_aload_n (r := r_13) hx hb dX26_worth_13 rfl (lv_at hl 2 rfl) ?_
        refine zr_ifnull (r := r_13) (tgt := 42) hx hb dX26_worth_14 (by decide) (fun hc => ?_) (fun hc => ?_)
        · have hw := hw.1 hc
          refine lv_dload_n hx hb dX26_worth_42 rfl (lv_at hl 1 rfl) ?_
          exact zr_dret hk hr hH hz hS hw (Nat.le_of_ble_eq_true rfl) (Nat.le_of_ble_eq_true rfl) dX26_worth_43
        · have hw := hw.2 hc
          refine zr_aload_n (r := some h0) hx hb dX26_worth_17 rfl (lv_at hl 0 rfl) ?_
          refine lv_dload_n hx hb dX26_worth_18 rfl (lv_at hl 1 rfl) ?_
          refine zr_aload_n (r := r_13) hx hb dX26_worth_19 rfl (lv_at hl 2 rfl) ?_
          obtain ⟨a_17, ci_18, fs_19, x_20, er, he, hc, hv, hw⟩ := zgI_e hw
          refine zw_get hk hH er he hv (fk_X26_42 hc) dX26_worth_20 ?_
          refine zr_aload_n (r := r_13) hx hb dX26_worth_23 rfl (lv_at hl 2 rfl) ?_
          obtain ⟨a_21, ci_22, fs_23, r_24, er, he, hc, hv, hw⟩ := zgR_e hw
          refine zw_get hk hH er he hv (fk_X26_46 hc) dX26_worth_24 ?_
          obtain ⟨a_40, ci_41, fs_42, er, he, hc, PP_43, hPP, hw⟩ := zo_e hw
          have hC : ∀ (x_27 : UInt64) (hp_25 : zHp) (nx_26 : Nat), PP_43 x_27 hp_25 nx_26 → ∀ (H : Heap) (locs : List Loc), zHd g hp_25 H → H.size = nx_26 → va_S (zAd g) s.heap H locs → W p l e (zrm (d + 1) 0 0) s m ([.ref h0] : List Value).toArray below meth c H locs (0 + 0) (0 + 0) (MQ below (zQd g Post) ([.ref h0] : List Value).toArray s 0 0 (zAd g)) (F0 m 30 ls [.double x_27, .int x_20, .double x_12, va_rf (some h0)]) := by
            intro x_27 hp_25 nx_26 hw H locs hH hz hS
            have hw := hPP x_27 hp_25 nx_26 hw
            obtain ⟨a_36, ci_37, fs_38, er, he, hc, PP_39, hPP, hw⟩ := zo_e hw
            have hC : ∀ (x_30 : UInt64) (hp_28 : zHp) (nx_29 : Nat), PP_39 x_30 hp_28 nx_29 → ∀ (H : Heap) (locs : List Loc), zHd g hp_28 H → H.size = nx_29 → va_S (zAd g) s.heap H locs → W p l e (zrm (d + 1) 0 0) s m ([.ref h0] : List Value).toArray below meth c H locs (0 + 0) (0 + 0) (MQ below (zQd g Post) ([.ref h0] : List Value).toArray s 0 0 (zAd g)) (F0 m 33 ls [.double x_30]) := by
              intro x_30 hp_28 nx_29 hw H locs hH hz hS
              have hw := hPP x_30 hp_28 nx_29 hw
              refine lv_dstore_n (i := 1) (lv' := [(1, .double x_30), (0, va_rf (some h0)), (3, va_rf r_13)]) hx hb dX26_worth_33 rfl hl (by decide) (by first | rfl | simp [List.filter_cons, z_cat, z_catI, z_catJ, z_catF, z_catD]) (fun ls hl => ?_)
              refine zr_aload_n (r := r_13) hx hb dX26_worth_34 rfl (lv_at hl 2 rfl) ?_
              obtain ⟨a_31, ci_32, fs_33, r_34, er, he, hc, hv, hw⟩ := zgR_e hw
              refine zw_get hk hH er he hv (fk_X26_29 hc) dX26_worth_35 ?_
              refine zr_astore_n (r := r_34) (i := 3) (lv' := [(3, va_rf r_34), (1, .double x_30), (0, va_rf (some h0))]) hx hb dX26_worth_38 rfl hl (by decide) (by first | rfl | simp [List.filter_cons, z_cat, z_catI, z_catJ, z_catF, z_catD]) (fun ls hl => ?_)
              refine lv_goto (tgt := 13) hx hb dX26_worth_39 (by decide) ?_
              obtain ⟨k_35, hlt, hw⟩ := hw
              exact ih_13 k_35 hlt x_30 r_34 hp_28 nx_29 _ _ _ hw (lv_sub hl [2, 1, 0] rfl) hH hz hS
            simp only [List.mem_cons, List.not_mem_nil, or_false] at hc
            rcases hc with rfl | rfl
            · exact zr_calld (zw_runV (As := [.double x_12, .int x_20, .double x_27]) hk hH hz hS hl.1 er (hw.1 rfl) (cwV 3 hts (lw_V q2248 q2249 q2250 q190 q2258) rfl rfl rfl (by decide +kernel) (z_room (Nat.le_of_ble_eq_true rfl))) he rfl rfl rfl (Nat.le_of_ble_eq_true rfl) dX26_worth_30 ⟨Nat.le_of_ble_eq_true rfl, Nat.le_of_ble_eq_true rfl⟩) hS hC
            · exact zr_calld (zw_runU (As := [.double x_12, .int x_20, .double x_27]) hk hH hz hS hl.1 er (hw.2 rfl) (va_cwO 3 hts (z_O q2248 q2251 q2249 q2252 q2253 q191 q2254) rfl rfl rfl q2258 (by decide +kernel) (z_room (Nat.le_of_ble_eq_true rfl))) he rfl rfl rfl (Nat.le_of_ble_eq_true rfl) dX26_worth_30 ⟨Nat.le_of_ble_eq_true rfl, Nat.le_of_ble_eq_true rfl⟩) hS hC
          simp only [List.mem_cons, List.not_mem_nil, or_false] at hc
          rcases hc with rfl | rfl | rfl | rfl | rfl | rfl | rfl | rfl | rfl | rfl | rfl | rfl | rfl | rfl
          · exact zr_calld (zw_runU (As := []) hk hH hz hS hl.1 er (hw.1 rfl) (va_cwA 0 hts (z_U q2247 q2146 q2288 q2242 q177 q2243) rfl rfl rfl (hk.2.2.1.1 _ q2145 rfl) (by decide +kernel) (z_room (Nat.le_of_ble_eq_true rfl))) he rfl rfl rfl (by simp only [List.map_cons, List.map_nil, z_cat]; exact Nat.le_of_ble_eq_true rfl) dX26_worth_27 ⟨Nat.le_of_ble_eq_true rfl, Nat.le_of_ble_eq_true rfl⟩) hS hC
          · exact zr_calld (zw_runU (As := []) hk hH hz hS hl.1 er (hw.2.1 rfl) (va_cwA 0 hts (z_U q2247 q2146 q2282 q2231 q178 q2232) rfl rfl rfl (hk.2.2.1.1 _ q2145 rfl) (by decide +kernel) (z_room (Nat.le_of_ble_eq_true rfl))) he rfl rfl rfl (by simp only [List.map_cons, List.map_nil, z_cat]; exact Nat.le_of_ble_eq_true rfl) dX26_worth_27 ⟨Nat.le_of_ble_eq_true rfl, Nat.le_of_ble_eq_true rfl⟩) hS hC
          · exact zr_calld (zw_runU (As := []) hk hH hz hS hl.1 er (hw.2.2.1 rfl) (va_cwA 0 hts (z_U q2247 q2146 q2280 q2231 q178 q2232) rfl rfl rfl (hk.2.2.1.1 _ q2145 rfl) (by decide +kernel) (z_room (Nat.le_of_ble_eq_true rfl))) he rfl rfl rfl (by simp only [List.map_cons, List.map_nil, z_cat]; exact Nat.le_of_ble_eq_true rfl) dX26_worth_27 ⟨Nat.le_of_ble_eq_true rfl, Nat.le_of_ble_eq_true rfl⟩) hS hC
          · exact zr_calld (zw_runU (As := []) hk hH hz hS hl.1 er (hw.2.2.2.1 rfl) (va_cwA 0 hts (z_U q2247 q2146 q2147 q2148 q182 q2149) rfl rfl rfl (hk.2.2.1.1 _ q2145 rfl) (by decide +kernel) (z_room (Nat.le_of_ble_eq_true rfl))) he rfl rfl rfl (by simp only [List.map_cons, List.map_nil, z_cat]; exact Nat.le_of_ble_eq_true rfl) dX26_worth_27 ⟨Nat.le_of_ble_eq_true rfl, Nat.le_of_ble_eq_true rfl⟩) hS hC
          · exact zr_calld (zw_runU (As := []) hk hH hz hS hl.1 er (hw.2.2.2.2.1 rfl) (va_cwA 0 hts (z_U q2247 q2146 q2283 q2148 q182 q2149) rfl rfl rfl (hk.2.2.1.1 _ q2145 rfl) (by decide +kernel) (z_room (Nat.le_of_ble_eq_true rfl))) he rfl rfl rfl (by simp only [List.map_cons, List.map_nil, z_cat]; exact Nat.le_of_ble_eq_true rfl) dX26_worth_27 ⟨Nat.le_of_ble_eq_true rfl, Nat.le_of_ble_eq_true rfl⟩) hS hC
          · exact zr_calld (zw_runU (As := []) hk hH hz hS hl.1 er (hw.2.2.2.2.2.1 rfl) (va_cwA 0 hts (z_U q2247 q2146 q2281 q2148 q182 q2149) rfl rfl rfl (hk.2.2.1.1 _ q2145 rfl) (by decide +kernel) (z_room (Nat.le_of_ble_eq_true rfl))) he rfl rfl rfl (by simp only [List.map_cons, List.map_nil, z_cat]; exact Nat.le_of_ble_eq_true rfl) dX26_worth_27 ⟨Nat.le_of_ble_eq_true rfl, Nat.le_of_ble_eq_true rfl⟩) hS hC
          · exact zr_calld (zw_runU (As := []) hk hH hz hS hl.1 er (hw.2.2.2.2.2.2.1 rfl) (va_cwA 0 hts (z_U q2247 q2146 q2285 q2148 q182 q2149) rfl rfl rfl (hk.2.2.1.1 _ q2145 rfl) (by decide +kernel) (z_room (Nat.le_of_ble_eq_true rfl))) he rfl rfl rfl (by simp only [List.map_cons, List.map_nil, z_cat]; exact Nat.le_of_ble_eq_true rfl) dX26_worth_27 ⟨Nat.le_of_ble_eq_true rfl, Nat.le_of_ble_eq_true rfl⟩) hS hC
          · exact zr_calld (zw_runU (As := []) hk hH hz hS hl.1 er (hw.2.2.2.2.2.2.2.1 rfl) (va_cwA 0 hts (z_U q2247 q2146 q2279 q2148 q182 q2149) rfl rfl rfl (hk.2.2.1.1 _ q2145 rfl) (by decide +kernel) (z_room (Nat.le_of_ble_eq_true rfl))) he rfl rfl rfl (by simp only [List.map_cons, List.map_nil, z_cat]; exact Nat.le_of_ble_eq_true rfl) dX26_worth_27 ⟨Nat.le_of_ble_eq_true rfl, Nat.le_of_ble_eq_true rfl⟩) hS hC
          · exact zr_calld (zw_runU (As := []) hk hH hz hS hl.1 er (hw.2.2.2.2.2.2.2.2.1 rfl) (va_cwA 0 hts (z_U q2247 q2146 q2286 q2237 q187 q2238) rfl rfl rfl (hk.2.2.1.1 _ q2145 rfl) (by decide +kernel) (z_room (Nat.le_of_ble_eq_true rfl))) he rfl rfl rfl (by simp only [List.map_cons, List.map_nil, z_cat]; exact Nat.le_of_ble_eq_true rfl) dX26_worth_27 ⟨Nat.le_of_ble_eq_true rfl, Nat.le_of_ble_eq_true rfl⟩) hS hC
          · exact zr_calld (zw_runU (As := []) hk hH hz hS hl.1 er (hw.2.2.2.2.2.2.2.2.2.1 rfl) (va_cwA 0 hts (z_U q2247 q2146 q2287 q2240 q188 q2241) rfl rfl rfl (hk.2.2.1.1 _ q2145 rfl) (by decide +kernel) (z_room (Nat.le_of_ble_eq_true rfl))) he rfl rfl rfl (by simp only [List.map_cons, List.map_nil, z_cat]; exact Nat.le_of_ble_eq_true rfl) dX26_worth_27 ⟨Nat.le_of_ble_eq_true rfl, Nat.le_of_ble_eq_true rfl⟩) hS hC
          · exact zr_calld (zw_runU (As := []) hk hH hz hS hl.1 er (hw.2.2.2.2.2.2.2.2.2.2.1 rfl) (va_cwA 0 hts (z_U q2247 q2146 q2284 q2234 q189 q2235) rfl rfl rfl (hk.2.2.1.1 _ q2145 rfl) (by decide +kernel) (z_room (Nat.le_of_ble_eq_true rfl))) he rfl rfl rfl (by simp only [List.map_cons, List.map_nil, z_cat]; exact Nat.le_of_ble_eq_true rfl) dX26_worth_27 ⟨Nat.le_of_ble_eq_true rfl, Nat.le_of_ble_eq_true rfl⟩) hS hC
          · exact zr_calld (zw_runU (As := []) hk hH hz hS hl.1 er (hw.2.2.2.2.2.2.2.2.2.2.2.1 rfl) (va_cwA 0 hts (z_U q2247 q2146 q2289 q2245 q190 q2246) rfl rfl rfl (hk.2.2.1.1 _ q2145 rfl) (by decide +kernel) (z_room (Nat.le_of_ble_eq_true rfl))) he rfl rfl rfl (by simp only [List.map_cons, List.map_nil, z_cat]; exact Nat.le_of_ble_eq_true rfl) dX26_worth_27 ⟨Nat.le_of_ble_eq_true rfl, Nat.le_of_ble_eq_true rfl⟩) hS hC
          · exact zr_calld (zw_runU (As := []) hk hH hz hS hl.1 er (hw.2.2.2.2.2.2.2.2.2.2.2.2.1 rfl) (va_cwA 0 hts (z_U q2247 q2146 q2290 q2245 q190 q2246) rfl rfl rfl (hk.2.2.1.1 _ q2145 rfl) (by decide +kernel) (z_room (Nat.le_of_ble_eq_true rfl))) he rfl rfl rfl (by simp only [List.map_cons, List.map_nil, z_cat]; exact Nat.le_of_ble_eq_true rfl) dX26_worth_27 ⟨Nat.le_of_ble_eq_true rfl, Nat.le_of_ble_eq_true rfl⟩) hS hC
          · exact zr_calld (zw_runU (As := []) hk hH hz hS hl.1 er (hw.2.2.2.2.2.2.2.2.2.2.2.2.2 rfl) (va_cwA 0 hts (z_U q2247 q2146 q2230 q2231 q178 q2232) rfl rfl rfl (hk.2.2.1.1 _ q2145 rfl) (by decide +kernel) (z_room (Nat.le_of_ble_eq_true rfl))) he rfl rfl rfl (by simp only [List.map_cons, List.map_nil, z_cat]; exact Nat.le_of_ble_eq_true rfl) dX26_worth_27 ⟨Nat.le_of_ble_eq_true rfl, Nat.le_of_ble_eq_true rfl⟩) hS hC
    exact hL_13 n_44 x_7 r_11 hp_5 nx_6 _ _ _ hI (lv_sub hl [2, 1, 0] rfl) hH hz hS
  simp only [List.mem_cons, List.not_mem_nil, or_false] at hc
  rcases hc with rfl | rfl | rfl | rfl | rfl | rfl | rfl | rfl | rfl | rfl | rfl | rfl | rfl | rfl
  · exact zr_calld (zw_runU (As := []) hk hH hz hS hl.1 er (hw.1 rfl) (va_cwA 0 hts (z_U q2247 q2146 q2288 q2242 q177 q2243) rfl rfl rfl (hk.2.2.1.1 _ q2145 rfl) (by decide +kernel) (z_room (Nat.le_of_ble_eq_true rfl))) he rfl rfl rfl (Nat.le_of_ble_eq_true rfl) dX26_worth_4 ⟨Nat.le_of_ble_eq_true rfl, Nat.le_of_ble_eq_true rfl⟩) hS hC
  · exact zr_calld (zw_runU (As := []) hk hH hz hS hl.1 er (hw.2.1 rfl) (va_cwA 0 hts (z_U q2247 q2146 q2282 q2231 q178 q2232) rfl rfl rfl (hk.2.2.1.1 _ q2145 rfl) (by decide +kernel) (z_room (Nat.le_of_ble_eq_true rfl))) he rfl rfl rfl (Nat.le_of_ble_eq_true rfl) dX26_worth_4 ⟨Nat.le_of_ble_eq_true rfl, Nat.le_of_ble_eq_true rfl⟩) hS hC
  · exact zr_calld (zw_runU (As := []) hk hH hz hS hl.1 er (hw.2.2.1 rfl) (va_cwA 0 hts (z_U q2247 q2146 q2280 q2231 q178 q2232) rfl rfl rfl (hk.2.2.1.1 _ q2145 rfl) (by decide +kernel) (z_room (Nat.le_of_ble_eq_true rfl))) he rfl rfl rfl (Nat.le_of_ble_eq_true rfl) dX26_worth_4 ⟨Nat.le_of_ble_eq_true rfl, Nat.le_of_ble_eq_true rfl⟩) hS hC
  · exact zr_calld (zw_runU (As := []) hk hH hz hS hl.1 er (hw.2.2.2.1 rfl) (va_cwA 0 hts (z_U q2247 q2146 q2147 q2148 q182 q2149) rfl rfl rfl (hk.2.2.1.1 _ q2145 rfl) (by decide +kernel) (z_room (Nat.le_of_ble_eq_true rfl))) he rfl rfl rfl (Nat.le_of_ble_eq_true rfl) dX26_worth_4 ⟨Nat.le_of_ble_eq_true rfl, Nat.le_of_ble_eq_true rfl⟩) hS hC
  · exact zr_calld (zw_runU (As := []) hk hH hz hS hl.1 er (hw.2.2.2.2.1 rfl) (va_cwA 0 hts (z_U q2247 q2146 q2283 q2148 q182 q2149) rfl rfl rfl (hk.2.2.1.1 _ q2145 rfl) (by decide +kernel) (z_room (Nat.le_of_ble_eq_true rfl))) he rfl rfl rfl (Nat.le_of_ble_eq_true rfl) dX26_worth_4 ⟨Nat.le_of_ble_eq_true rfl, Nat.le_of_ble_eq_true rfl⟩) hS hC
  · exact zr_calld (zw_runU (As := []) hk hH hz hS hl.1 er (hw.2.2.2.2.2.1 rfl) (va_cwA 0 hts (z_U q2247 q2146 q2281 q2148 q182 q2149) rfl rfl rfl (hk.2.2.1.1 _ q2145 rfl) (by decide +kernel) (z_room (Nat.le_of_ble_eq_true rfl))) he rfl rfl rfl (Nat.le_of_ble_eq_true rfl) dX26_worth_4 ⟨Nat.le_of_ble_eq_true rfl, Nat.le_of_ble_eq_true rfl⟩) hS hC
  · exact zr_calld (zw_runU (As := []) hk hH hz hS hl.1 er (hw.2.2.2.2.2.2.1 rfl) (va_cwA 0 hts (z_U q2247 q2146 q2285 q2148 q182 q2149) rfl rfl rfl (hk.2.2.1.1 _ q2145 rfl) (by decide +kernel) (z_room (Nat.le_of_ble_eq_true rfl))) he rfl rfl rfl (Nat.le_of_ble_eq_true rfl) dX26_worth_4 ⟨Nat.le_of_ble_eq_true rfl, Nat.le_of_ble_eq_true rfl⟩) hS hC
  · exact zr_calld (zw_runU (As := []) hk hH hz hS hl.1 er (hw.2.2.2.2.2.2.2.1 rfl) (va_cwA 0 hts (z_U q2247 q2146 q2279 q2148 q182 q2149) rfl rfl rfl (hk.2.2.1.1 _ q2145 rfl) (by decide +kernel) (z_room (Nat.le_of_ble_eq_true rfl))) he rfl rfl rfl (Nat.le_of_ble_eq_true rfl) dX26_worth_4 ⟨Nat.le_of_ble_eq_true rfl, Nat.le_of_ble_eq_true rfl⟩) hS hC
  · exact zr_calld (zw_runU (As := []) hk hH hz hS hl.1 er (hw.2.2.2.2.2.2.2.2.1 rfl) (va_cwA 0 hts (z_U q2247 q2146 q2286 q2237 q187 q2238) rfl rfl rfl (hk.2.2.1.1 _ q2145 rfl) (by decide +kernel) (z_room (Nat.le_of_ble_eq_true rfl))) he rfl rfl rfl (Nat.le_of_ble_eq_true rfl) dX26_worth_4 ⟨Nat.le_of_ble_eq_true rfl, Nat.le_of_ble_eq_true rfl⟩) hS hC
  · exact zr_calld (zw_runU (As := []) hk hH hz hS hl.1 er (hw.2.2.2.2.2.2.2.2.2.1 rfl) (va_cwA 0 hts (z_U q2247 q2146 q2287 q2240 q188 q2241) rfl rfl rfl (hk.2.2.1.1 _ q2145 rfl) (by decide +kernel) (z_room (Nat.le_of_ble_eq_true rfl))) he rfl rfl rfl (Nat.le_of_ble_eq_true rfl) dX26_worth_4 ⟨Nat.le_of_ble_eq_true rfl, Nat.le_of_ble_eq_true rfl⟩) hS hC
  · exact zr_calld (zw_runU (As := []) hk hH hz hS hl.1 er (hw.2.2.2.2.2.2.2.2.2.2.1 rfl) (va_cwA 0 hts (z_U q2247 q2146 q2284 q2234 q189 q2235) rfl rfl rfl (hk.2.2.1.1 _ q2145 rfl) (by decide +kernel) (z_room (Nat.le_of_ble_eq_true rfl))) he rfl rfl rfl (Nat.le_of_ble_eq_true rfl) dX26_worth_4 ⟨Nat.le_of_ble_eq_true rfl, Nat.le_of_ble_eq_true rfl⟩) hS hC
  · exact zr_calld (zw_runU (As := []) hk hH hz hS hl.1 er (hw.2.2.2.2.2.2.2.2.2.2.2.1 rfl) (va_cwA 0 hts (z_U q2247 q2146 q2289 q2245 q190 q2246) rfl rfl rfl (hk.2.2.1.1 _ q2145 rfl) (by decide +kernel) (z_room (Nat.le_of_ble_eq_true rfl))) he rfl rfl rfl (Nat.le_of_ble_eq_true rfl) dX26_worth_4 ⟨Nat.le_of_ble_eq_true rfl, Nat.le_of_ble_eq_true rfl⟩) hS hC
  · exact zr_calld (zw_runU (As := []) hk hH hz hS hl.1 er (hw.2.2.2.2.2.2.2.2.2.2.2.2.1 rfl) (va_cwA 0 hts (z_U q2247 q2146 q2290 q2245 q190 q2246) rfl rfl rfl (hk.2.2.1.1 _ q2145 rfl) (by decide +kernel) (z_room (Nat.le_of_ble_eq_true rfl))) he rfl rfl rfl (Nat.le_of_ble_eq_true rfl) dX26_worth_4 ⟨Nat.le_of_ble_eq_true rfl, Nat.le_of_ble_eq_true rfl⟩) hS hC
  · exact zr_calld (zw_runU (As := []) hk hH hz hS hl.1 er (hw.2.2.2.2.2.2.2.2.2.2.2.2.2 rfl) (va_cwA 0 hts (z_U q2247 q2146 q2230 q2231 q178 q2232) rfl rfl rfl (hk.2.2.1.1 _ q2145 rfl) (by decide +kernel) (z_room (Nat.le_of_ble_eq_true rfl))) he rfl rfl rfl (Nat.le_of_ble_eq_true rfl) dX26_worth_4 ⟨Nat.le_of_ble_eq_true rfl, Nat.le_of_ble_eq_true rfl⟩) hS hC
theorem fk_X26_1 {ci : Nat} (h : ci ∈ [26, 27]) : zFk "WhatIfSheet$Sum" 1 ci 4 := by
  simp only [List.mem_cons, List.not_mem_nil, or_false] at h
  rcases h with rfl | rfl
  · exact ⟨RX26, TX26, 5, rfl, by decide, q1871⟩
  · exact ⟨RX27, TX27, 6, rfl, by decide, q1871⟩
def wp_X26_joins (l : Launch) (g : zG) (d : Nat) (h0 : Nat) (x1 : UInt64) (x3 : Int32) (x4 : UInt64) (hp : zHp) (nx : Nat) (Post : UInt64 → zHp → Nat → Prop) : Prop :=
  (zgR hp (some h0) [26, 27] 4 fun r_4 =>
  (∃ P_21 : (Option Nat) → UInt64 → zHp → Nat → Prop, (∀ (r_5 : Option Nat) (x_6 : UInt64) (hp_7 : zHp) (nx_8 : Nat), P_21 r_5 x_6 hp_7 nx_8 →
  (zo hp_7 r_5 [0] fun a_12 ci_13 fs_14 => zMt l g yX0_near cX0_near 3 (some .double) d 0 0 (.ref a_12 :: [.double x_6]) hp_7 nx_8 (zQd g fun x_11 hp_9 nx_10 =>
  (Post x_11 hp_9 nx_10)))) ∧
  ((x3 = (43 : Int32) →
  (vf_n64 (FP.dadd x1 x4) ∧ P_21 r_4 (FP.dadd x1 x4) hp nx)) ∧
  (¬ x3 = (43 : Int32) →
  (vf_n64 (FP.dsub x1 x4) ∧ P_21 r_4 (FP.dsub x1 x4) hp nx)))))
set_option maxHeartbeats 40000000 in
theorem met_X26_joins {l : Launch} {g : zG} {d : Nat} {h0 : Nat} {x1 : UInt64} {x3 : Int32} {x4 : UInt64} {hp : zHp} {nx : Nat} {Post : UInt64 → zHp → Nat → Prop} (hw : wp_X26_joins l g d h0 x1 x3 x4 hp nx Post) : zMt l g yX26_joins cX26_joins 6 (some .double) (d + 1) 0 0 [.ref h0, .double x1, .int x3, .double x4] hp nx (zQd g Post) := by
  refine z_start (by decide) (Nat.le_of_ble_eq_true rfl) ?_
  intro p e s m below meth c hk hr hin hH hz ls hl
  have hx := hk.1.1
  have hb := hk.1.2.1
  have hown := hk.1.2.2.2.1
  have hts := hk.1.2.2.2.2
  have hS : va_S (zAd g) s.heap s.heap [] := va_S.rf
  have hl : lv_has ls 6 [(0, va_rf (some h0)), (1, .double x1), (3, .int x3), (4, .double x4)] := hl
  unfold wp_X26_joins at hw
  refine zr_aload_n (r := some h0) hx hb dX26_joins_0 rfl (lv_at hl 0 rfl) ?_
  obtain ⟨a_1, ci_2, fs_3, r_4, er, he, hc, hv, hw⟩ := zgR_e hw
  refine zw_get hk hH er he hv (fk_X26_1 hc) dX26_joins_1 ?_
  refine lv_iload_n hx hb dX26_joins_4 rfl (lv_at hl 2 rfl) ?_
  refine lv_bipush (v := (43 : Int32)) hx hb dX26_joins_5 (by decide) ?_
  obtain ⟨P_21, hP_21, hw⟩ := hw
  have hJ_21 : ∀ (r_5 : Option Nat) (x_6 : UInt64) (hp_7 : zHp) (nx_8 : Nat) (H : Heap) (locs : List Loc) (ls : Array Slot), P_21 r_5 x_6 hp_7 nx_8 → lv_has ls 6 [(0, va_rf (some h0)), (1, .double x1), (3, .int x3), (4, .double x4)] → zHd g hp_7 H → H.size = nx_8 → va_S (zAd g) s.heap H locs → W p l e (zrm (d + 1) 0 0) s m ([.ref h0, .double x1, .int x3, .double x4] : List Value).toArray below meth c H locs 0 0 (MQ below (zQd g Post) ([.ref h0, .double x1, .int x3, .double x4] : List Value).toArray s 0 0 (zAd g)) (F0 m 21 ls [.double x_6, va_rf r_5]) := by
    intro r_5 x_6 hp_7 nx_8 H locs ls hw hl hH hz hS
    have hw := hP_21 r_5 x_6 hp_7 nx_8 hw
    obtain ⟨a_12, ci_13, fs_14, er, he, hc, hw⟩ := zo_e hw
    obtain rfl := List.mem_singleton.mp hc
    refine zr_calld (zw_runVN (As := [.double x_6]) hk hH hz hS hl.1 er hw ⟨va_cnB 1 hts (lw_meth q2226) rfl rfl rfl (hk.2.2.1.1 _ q2259 rfl) (hts _ q131) (by decide +kernel) (z_room (Nat.le_of_ble_eq_true rfl)), hts _ q2225, hts _ qs50⟩ he rfl rfl rfl (Nat.le_of_ble_eq_true rfl) dX26_joins_21 ⟨Nat.le_of_ble_eq_true rfl, Nat.le_of_ble_eq_true rfl⟩) hS (fun x_11 hp_9 nx_10 hw H locs hH hz hS => ?_)
    exact zr_dret hk hr hH hz hS hw (Nat.le_of_ble_eq_true rfl) (Nat.le_of_ble_eq_true rfl) dX26_joins_24
  refine lv_icmp_ne (tgt := 17) hx hb dX26_joins_7 (by decide) (fun hc => ?_) (fun hc => ?_)
  · have hw := hw.2 hc
    refine lv_dload_n hx hb dX26_joins_17 rfl (lv_at hl 1 rfl) ?_
    refine lv_dload hx hb dX26_joins_18 (lv_at hl 3 rfl) ?_
    obtain ⟨hne, hw⟩ := hw
    refine lv_dsub hx hb dX26_joins_20 hne ?_
    exact hJ_21 r_4 (FP.dsub x1 x4) hp nx _ _ _ hw hl hH hz hS
  · have hw := hw.1 hc
    refine lv_dload_n hx hb dX26_joins_10 rfl (lv_at hl 1 rfl) ?_
    refine lv_dload hx hb dX26_joins_11 (lv_at hl 3 rfl) ?_
    obtain ⟨hne, hw⟩ := hw
    refine lv_dadd hx hb dX26_joins_13 hne ?_
    refine lv_goto (tgt := 21) hx hb dX26_joins_14 (by decide) ?_
    exact hJ_21 r_4 (FP.dadd x1 x4) hp nx _ _ _ hw hl hH hz hS
theorem ff_X27_3 {ci : Nat} (h : ci ∈ [27]) : zFf "WhatIfSheet$Term" 3 ci 5 (.object "WhatIfSheet") := by
  simp only [List.mem_cons, List.not_mem_nil, or_false] at h
  rcases h with rfl
  · exact ⟨RX27, TX27, 6, rfl, by decide, q1867, rfl, rfl, by decide +kernel⟩
def wp_X27_init (l : Launch) (g : zG) (d : Nat) (h0 : Nat) (r1 : Option Nat) (r2 : Option Nat) (hp : zHp) (nx : Nat) (Post : zHp → Nat → Prop) : Prop :=
  (zpt g hp (some h0) [27] 5 (va_rf r1) fun hp_4 =>
  (zMt l g yX26_init cX26_init 3 none d 0 0 (.ref h0 :: [va_rf r1, va_rf r2]) hp_4 nx (zQv g fun hp_5 nx_6 =>
  (Post hp_5 nx_6))))
set_option maxHeartbeats 40000000 in
theorem met_X27_init {l : Launch} {g : zG} {d : Nat} {h0 : Nat} {r1 : Option Nat} {r2 : Option Nat} {hp : zHp} {nx : Nat} {Post : zHp → Nat → Prop} (hw : wp_X27_init l g d h0 r1 r2 hp nx Post) : zMt l g yX27_init cX27_init 3 none (d + 1) 0 0 [.ref h0, va_rf r1, va_rf r2] hp nx (zQv g Post) := by
  refine z_start (by decide) (by cases r1 <;> cases r2 <;> exact Nat.le_of_ble_eq_true rfl) ?_
  intro p e s m below meth c hk hr hin hH hz ls hl
  have hx := hk.1.1
  have hb := hk.1.2.1
  have hown := hk.1.2.2.2.1
  have hts := hk.1.2.2.2.2
  have hS : va_S (zAd g) s.heap s.heap [] := va_S.rf
  have hl : lv_has ls 3 [(0, va_rf (some h0)), (1, va_rf r1), (2, va_rf r2)] := by cases r1 <;> cases r2 <;> exact hl
  unfold wp_X27_init at hw
  refine zr_aload_n (r := some h0) hx hb dX27_init_0 rfl (lv_at hl 0 rfl) ?_
  refine zr_aload_n (r := r1) hx hb dX27_init_1 rfl (lv_at hl 1 rfl) ?_
  obtain ⟨a_1, ci_2, fs_3, hp_4, er, he, hc, hA, hkl, eh, hw⟩ := zpt_e hw
  refine zw_putF hk hin hH hz hS er he hA hkl eh (ff_X27_3 hc) (z_narR _ _) (z_fitR _ _) dX27_init_2 (fun H locs hH hz hS => ?_)
  refine zr_aload_n (r := some h0) hx hb dX27_init_5 rfl (lv_at hl 0 rfl) ?_
  refine zr_aload_n (r := r1) hx hb dX27_init_6 rfl (lv_at hl 1 rfl) ?_
  refine zr_aload_n (r := r2) hx hb dX27_init_7 rfl (lv_at hl 2 rfl) ?_
  refine zr_callv (zw_runI (As := [va_rf r1, va_rf r2]) (r := some h0) hk hH hz hS hl.1 rfl hw (cwI 2 hts (lw_meth q1865) rfl rfl rfl (hts _ q190) (hts _ q1863) (hts _ q1864) rfl (by decide +kernel) (z_room (Nat.le_of_ble_eq_true rfl))) rfl rfl (Nat.le_of_ble_eq_true rfl) dX27_init_8 ⟨Nat.le_of_ble_eq_true rfl, Nat.le_of_ble_eq_true rfl⟩) hS (fun hp_5 nx_6 hw H locs hH hz hS => ?_)
  exact zr_vret hk hr hH hz hS hw (Nat.le_of_ble_eq_true rfl) (Nat.le_of_ble_eq_true rfl) dX27_init_11
theorem fk_X27_3 {ci : Nat} (h : ci ∈ [27]) : zFk "WhatIfSheet$Term" 3 ci 5 := by
  simp only [List.mem_cons, List.not_mem_nil, or_false] at h
  rcases h with rfl
  · exact ⟨RX27, TX27, 6, rfl, by decide, q1867⟩
theorem cz_27 {ci : Nat} (h : ci ∈ [27]) : ∃ (C : String) (T : u_T) (N : Nat), zcl[ci]? = some (C, T, N) := by
  simp only [List.mem_cons, List.not_mem_nil, or_false] at h
  rcases h with rfl <;> exact ⟨_, _, _, rfl⟩
def wp_X27_joins (l : Launch) (g : zG) (d : Nat) (h0 : Nat) (x1 : UInt64) (x3 : Int32) (x4 : UInt64) (hp : zHp) (nx : Nat) (Post : UInt64 → zHp → Nat → Prop) : Prop :=
  ((x3 = (42 : Int32) →
  (zgR hp (some h0) [27] 5 fun r_33 =>
  (vf_n64 (FP.dmul x1 x4) ∧ (zo hp r_33 [0] fun a_37 ci_38 fs_39 => zMt l g yX0_near cX0_near 3 (some .double) d 0 0 (.ref a_37 :: [.double (FP.dmul x1 x4)]) hp nx (zQd g fun x_36 hp_34 nx_35 =>
  (Post x_36 hp_34 nx_35)))))) ∧
  (¬ x3 = (42 : Int32) →
  (((Op.cmpValue (FP.dcmp x4 FP.dconst0) .l) = 0 →
  (zgR hp (some h0) [27] 5 fun r_17 =>
  (zo hp r_17 [0] fun a_27 ci_28 fs_29 => zMt l g yX0_faults cX0_faults 2 none d 0 0 (.ref a_27 :: [.int (2 : Int32)]) hp nx (zQv g fun hp_18 nx_19 =>
  (zo hp_18 (some h0) [27] fun a_23 ci_24 fs_25 => zMt l g yX26_joins cX26_joins 6 (some .double) d 0 0 (.ref a_23 :: [.double FP.dconst0, .int (43 : Int32), .double FP.dconst0]) hp_18 nx_19 (zQd g fun x_22 hp_20 nx_21 =>
  (Post x_22 hp_20 nx_21))))))) ∧
  (¬ (Op.cmpValue (FP.dcmp x4 FP.dconst0) .l) = 0 →
  (∃ P_66 : UInt64 → zHp → Nat → Prop, (∀ (x_1 : UInt64) (hp_2 : zHp) (nx_3 : Nat), P_66 x_1 hp_2 nx_3 →
  (Post x_1 hp_2 nx_3)) ∧
  ((x3 = (47 : Int32) →
  (zgR hp (some h0) [27] 5 fun r_7 =>
  (vf_n64 (FP.ddiv x1 x4) ∧ (zo hp r_7 [0] fun a_11 ci_12 fs_13 => zMt l g yX0_near cX0_near 3 (some .double) d 0 0 (.ref a_11 :: [.double (FP.ddiv x1 x4)]) hp nx (zQd g fun x_10 hp_8 nx_9 =>
  P_66 x_10 hp_8 nx_9))))) ∧
  (¬ x3 = (47 : Int32) →
  (vf_n64 (FP.drem x1 x4) ∧ P_66 (FP.drem x1 x4) hp nx))))))))
set_option maxHeartbeats 40000000 in
theorem met_X27_joins {l : Launch} {g : zG} {d : Nat} {h0 : Nat} {x1 : UInt64} {x3 : Int32} {x4 : UInt64} {hp : zHp} {nx : Nat} {Post : UInt64 → zHp → Nat → Prop} (hw : wp_X27_joins l g d h0 x1 x3 x4 hp nx Post) : zMt l g yX27_joins cX27_joins 6 (some .double) (d + 1) 0 0 [.ref h0, .double x1, .int x3, .double x4] hp nx (zQd g Post) := by
  refine z_start (by decide) (Nat.le_of_ble_eq_true rfl) ?_
  intro p e s m below meth c hk hr hin hH hz ls hl
  have hx := hk.1.1
  have hb := hk.1.2.1
  have hown := hk.1.2.2.2.1
  have hts := hk.1.2.2.2.2
  have hS : va_S (zAd g) s.heap s.heap [] := va_S.rf
  have hl : lv_has ls 6 [(0, va_rf (some h0)), (1, .double x1), (3, .int x3), (4, .double x4)] := hl
  unfold wp_X27_joins at hw
  refine lv_iload_n hx hb dX27_joins_0 rfl (lv_at hl 2 rfl) ?_
  refine lv_bipush (v := (42 : Int32)) hx hb dX27_joins_1 (by decide) ?_
  refine lv_icmp_ne (tgt := 18) hx hb dX27_joins_3 (by decide) (fun hc => ?_) (fun hc => ?_)
  · have hw := hw.2 hc
    refine lv_dload hx hb dX27_joins_18 (lv_at hl 3 rfl) ?_
    refine lv_dconst0 hx hb dX27_joins_20 ?_
    refine lv_dcmp hx hb dX27_joins_21 ?_
    refine lv_if_ne (tgt := 42) hx hb dX27_joins_22 (by decide) (fun hc => ?_) (fun hc => ?_)
    · have hw := hw.2 hc
      refine lv_iload_n hx hb dX27_joins_42 rfl (lv_at hl 2 rfl) ?_
      refine lv_bipush (v := (47 : Int32)) hx hb dX27_joins_43 (by decide) ?_
      obtain ⟨P_66, hP_66, hw⟩ := hw
      have hJ_66 : ∀ (x_1 : UInt64) (hp_2 : zHp) (nx_3 : Nat) (H : Heap) (locs : List Loc) (ls : Array Slot), P_66 x_1 hp_2 nx_3 → lv_has ls 6 [(0, va_rf (some h0)), (1, .double x1), (3, .int x3), (4, .double x4)] → zHd g hp_2 H → H.size = nx_3 → va_S (zAd g) s.heap H locs → W p l e (zrm (d + 1) 0 0) s m ([.ref h0, .double x1, .int x3, .double x4] : List Value).toArray below meth c H locs 0 0 (MQ below (zQd g Post) ([.ref h0, .double x1, .int x3, .double x4] : List Value).toArray s 0 0 (zAd g)) (F0 m 66 ls [.double x_1]) := by
        intro x_1 hp_2 nx_3 H locs ls hw hl hH hz hS
        have hw := hP_66 x_1 hp_2 nx_3 hw
        exact zr_dret hk hr hH hz hS hw (Nat.le_of_ble_eq_true rfl) (Nat.le_of_ble_eq_true rfl) dX27_joins_66
      refine lv_icmp_ne (tgt := 62) hx hb dX27_joins_45 (by decide) (fun hc => ?_) (fun hc => ?_)
      · have hw := hw.2 hc
        refine lv_dload_n hx hb dX27_joins_62 rfl (lv_at hl 1 rfl) ?_
        refine lv_dload hx hb dX27_joins_63 (lv_at hl 3 rfl) ?_
        obtain ⟨hne, hw⟩ := hw
        refine lv_drem hx hb dX27_joins_65 hne ?_
        exact hJ_66 (FP.drem x1 x4) hp nx _ _ _ hw hl hH hz hS
      · have hw := hw.1 hc
        refine zr_aload_n (r := some h0) hx hb dX27_joins_48 rfl (lv_at hl 0 rfl) ?_
        obtain ⟨a_4, ci_5, fs_6, r_7, er, he, hc, hv, hw⟩ := zgR_e hw
        refine zw_get hk hH er he hv (fk_X27_3 hc) dX27_joins_49 ?_
        refine lv_dload_n hx hb dX27_joins_52 rfl (lv_at hl 1 rfl) ?_
        refine lv_dload hx hb dX27_joins_53 (lv_at hl 3 rfl) ?_
        obtain ⟨hne, hw⟩ := hw
        refine lv_ddiv hx hb dX27_joins_55 hne ?_
        obtain ⟨a_11, ci_12, fs_13, er, he, hc, hw⟩ := zo_e hw
        obtain rfl := List.mem_singleton.mp hc
        refine zr_calld (zw_runVN (As := [.double (FP.ddiv x1 x4)]) hk hH hz hS hl.1 er hw ⟨va_cnB 1 hts (lw_meth q2226) rfl rfl rfl (hk.2.2.1.1 _ q2255 rfl) (hts _ q131) (by decide +kernel) (z_room (Nat.le_of_ble_eq_true rfl)), hts _ q2225, hts _ qs50⟩ he rfl rfl rfl (Nat.le_of_ble_eq_true rfl) dX27_joins_56 ⟨Nat.le_of_ble_eq_true rfl, Nat.le_of_ble_eq_true rfl⟩) hS (fun x_10 hp_8 nx_9 hw H locs hH hz hS => ?_)
        refine lv_goto (tgt := 66) hx hb dX27_joins_59 (by decide) ?_
        exact hJ_66 x_10 hp_8 nx_9 _ _ _ hw hl hH hz hS
    · have hw := hw.1 hc
      refine zr_aload_n (r := some h0) hx hb dX27_joins_25 rfl (lv_at hl 0 rfl) ?_
      obtain ⟨a_14, ci_15, fs_16, r_17, er, he, hc, hv, hw⟩ := zgR_e hw
      refine zw_get hk hH er he hv (fk_X27_3 hc) dX27_joins_26 ?_
      refine lv_iconst (v := (2 : Int32)) hx hb dX27_joins_29 (by decide) ?_
      obtain ⟨a_27, ci_28, fs_29, er, he, hc, hw⟩ := zo_e hw
      obtain rfl := List.mem_singleton.mp hc
      refine zr_callv (zw_runVN (As := [.int (2 : Int32)]) hk hH hz hS hl.1 er hw ⟨va_cnB 1 hts (lw_meth q2153) rfl rfl rfl (hk.2.2.1.1 _ q2256 rfl) (hts _ q131) (by decide +kernel) (z_room (Nat.le_of_ble_eq_true rfl)), hts _ q2152, hts _ qs44⟩ he rfl rfl rfl (Nat.le_of_ble_eq_true rfl) dX27_joins_30 ⟨Nat.le_of_ble_eq_true rfl, Nat.le_of_ble_eq_true rfl⟩) hS (fun hp_18 nx_19 hw H locs hH hz hS => ?_)
      refine zr_aload_n (r := some h0) hx hb dX27_joins_33 rfl (lv_at hl 0 rfl) ?_
      refine lv_dconst0 hx hb dX27_joins_34 ?_
      refine lv_bipush (v := (43 : Int32)) hx hb dX27_joins_35 (by decide) ?_
      refine lv_dconst0 hx hb dX27_joins_37 ?_
      obtain ⟨a_23, ci_24, fs_25, er, he, hc, hw⟩ := zo_e hw
      obtain ⟨C_, T_, N_, hcl_⟩ := cz_27 hc
      refine zr_calld (zw_runSU (C := C_) (As := [.double FP.dconst0, .int (43 : Int32), .double FP.dconst0]) hk hH hz hS hl.1 er hw (va_cwSU 3 hts (z_SU q2257 q2251 q1883 q2249 q190 q2258) rfl rfl rfl (by decide +kernel) (z_room (Nat.le_of_ble_eq_true rfl))) he hcl_ rfl rfl (Nat.le_of_ble_eq_true rfl) dX27_joins_38 ⟨Nat.le_of_ble_eq_true rfl, Nat.le_of_ble_eq_true rfl⟩) hS (fun x_22 hp_20 nx_21 hw H locs hH hz hS => ?_)
      exact zr_dret hk hr hH hz hS hw (Nat.le_of_ble_eq_true rfl) (Nat.le_of_ble_eq_true rfl) dX27_joins_41
  · have hw := hw.1 hc
    refine zr_aload_n (r := some h0) hx hb dX27_joins_6 rfl (lv_at hl 0 rfl) ?_
    obtain ⟨a_30, ci_31, fs_32, r_33, er, he, hc, hv, hw⟩ := zgR_e hw
    refine zw_get hk hH er he hv (fk_X27_3 hc) dX27_joins_7 ?_
    refine lv_dload_n hx hb dX27_joins_10 rfl (lv_at hl 1 rfl) ?_
    refine lv_dload hx hb dX27_joins_11 (lv_at hl 3 rfl) ?_
    obtain ⟨hne, hw⟩ := hw
    refine lv_dmul hx hb dX27_joins_13 hne ?_
    obtain ⟨a_37, ci_38, fs_39, er, he, hc, hw⟩ := zo_e hw
    obtain rfl := List.mem_singleton.mp hc
    refine zr_calld (zw_runVN (As := [.double (FP.dmul x1 x4)]) hk hH hz hS hl.1 er hw ⟨va_cnB 1 hts (lw_meth q2226) rfl rfl rfl (hk.2.2.1.1 _ q2255 rfl) (hts _ q131) (by decide +kernel) (z_room (Nat.le_of_ble_eq_true rfl)), hts _ q2225, hts _ qs50⟩ he rfl rfl rfl (Nat.le_of_ble_eq_true rfl) dX27_joins_14 ⟨Nat.le_of_ble_eq_true rfl, Nat.le_of_ble_eq_true rfl⟩) hS (fun x_36 hp_34 nx_35 hw H locs hH hz hS => ?_)
    exact zr_dret hk hr hH hz hS hw (Nat.le_of_ble_eq_true rfl) (Nat.le_of_ble_eq_true rfl) dX27_joins_17
theorem ff_X28_7 {ci : Nat} (h : ci ∈ [28]) : zFf "WhatIfSheet$Link" 7 ci 0 .int := by
  simp only [List.mem_cons, List.not_mem_nil, or_false] at h
  rcases h with rfl
  · exact ⟨RX28, TX28, 3, rfl, by decide, q1896, rfl, rfl, by decide +kernel⟩
theorem ff_X28_13 {ci : Nat} (h : ci ∈ [28]) : zFf "WhatIfSheet$Link" 13 ci 1 (.object "WhatIfSheet$Node") := by
  simp only [List.mem_cons, List.not_mem_nil, or_false] at h
  rcases h with rfl
  · exact ⟨RX28, TX28, 3, rfl, by decide, q1898, rfl, rfl, by decide +kernel⟩
def wp_X28_init (l : Launch) (g : zG) (d : Nat) (h0 : Nat) (x1 : Int32) (r2 : Option Nat) (hp : zHp) (nx : Nat) (Post : zHp → Nat → Prop) : Prop :=
  (zpt g hp (some h0) [28] 0 (.int x1) fun hp_4 =>
  (zpt g hp_4 (some h0) [28] 1 (va_rf r2) fun hp_8 =>
  (Post hp_8 nx)))
set_option maxHeartbeats 40000000 in
theorem met_X28_init {l : Launch} {g : zG} {d : Nat} {h0 : Nat} {x1 : Int32} {r2 : Option Nat} {hp : zHp} {nx : Nat} {Post : zHp → Nat → Prop} (hw : wp_X28_init l g d h0 x1 r2 hp nx Post) : zMt l g yX28_init cX28_init 3 none (d + 1) 0 0 [.ref h0, .int x1, va_rf r2] hp nx (zQv g Post) := by
  refine z_start (by decide) (by cases r2 <;> exact Nat.le_of_ble_eq_true rfl) ?_
  intro p e s m below meth c hk hr hin hH hz ls hl
  have hx := hk.1.1
  have hb := hk.1.2.1
  have hown := hk.1.2.2.2.1
  have hts := hk.1.2.2.2.2
  have hS : va_S (zAd g) s.heap s.heap [] := va_S.rf
  have hl : lv_has ls 3 [(0, va_rf (some h0)), (1, .int x1), (2, va_rf r2)] := by cases r2 <;> exact hl
  unfold wp_X28_init at hw
  refine zr_aload_n (r := some h0) hx hb dX28_init_0 rfl (lv_at hl 0 rfl) ?_
  refine W.objInit (a := h0) hx hb hown (hts _ q1895) (hts _ q206) (hts _ q207) rfl (by rw [hk.1.2.2.1]; exact hl.1) rfl dX28_init_1 (Nat.le_add_left 1 d) (Nat.le_trans (Nat.le_of_ble_eq_true rfl : _ ≤ 64) (by show 64 ≤ 64 * (d + 1); omega)) ?_
  refine W.eq (g2 := F0 m 4 ls []) rfl ?_
  refine zr_aload_n (r := some h0) hx hb dX28_init_4 rfl (lv_at hl 0 rfl) ?_
  refine lv_iload_n hx hb dX28_init_5 rfl (lv_at hl 1 rfl) ?_
  obtain ⟨a_1, ci_2, fs_3, hp_4, er, he, hc, hA, hkl, eh, hw⟩ := zpt_e hw
  refine zw_putF hk hin hH hz hS er he hA hkl eh (ff_X28_7 hc) rfl rfl dX28_init_6 (fun H locs hH hz hS => ?_)
  refine zr_aload_n (r := some h0) hx hb dX28_init_9 rfl (lv_at hl 0 rfl) ?_
  refine zr_aload_n (r := r2) hx hb dX28_init_10 rfl (lv_at hl 2 rfl) ?_
  obtain ⟨a_5, ci_6, fs_7, hp_8, er, he, hc, hA, hkl, eh, hw⟩ := zpt_e hw
  refine zw_putF hk hin hH hz hS er he hA hkl eh (ff_X28_13 hc) (z_narR _ _) (z_fitR _ _) dX28_init_11 (fun H locs hH hz hS => ?_)
  exact zr_vret hk hr hH hz hS hw (Nat.le_of_ble_eq_true rfl) (Nat.le_of_ble_eq_true rfl) dX28_init_14
theorem ff_X29_1 {ci : Nat} (h : ci ∈ [29]) : zFf "WhatIfSheet$Compared" 1 ci 5 (.object "WhatIfSheet") := by
  simp only [List.mem_cons, List.not_mem_nil, or_false] at h
  rcases h with rfl
  · exact ⟨RX29, TX29, 6, rfl, by decide, q1925, rfl, rfl, by decide +kernel⟩
theorem ff_X29_13 {ci : Nat} (h : ci ∈ [29]) : zFf "WhatIfSheet$Compared" 13 ci 4 .boolean := by
  simp only [List.mem_cons, List.not_mem_nil, or_false] at h
  rcases h with rfl
  · exact ⟨RX29, TX29, 6, rfl, by decide, q1924, rfl, rfl, by decide +kernel⟩
def wp_X29_init (l : Launch) (g : zG) (d : Nat) (h0 : Nat) (r1 : Option Nat) (x2 : Int32) (r3 : Option Nat) (r4 : Option Nat) (hp : zHp) (nx : Nat) (Post : zHp → Nat → Prop) : Prop :=
  (zpt g hp (some h0) [29] 5 (va_rf r1) fun hp_4 =>
  (zMt l g yX15_init cX15_init 4 none d 0 0 (.ref h0 :: [va_rf r1, va_rf r3, va_rf r4]) hp_4 nx (zQv g fun hp_5 nx_6 =>
  ((x2 = 0 ∨ x2 = 1) ∧ zpt g hp_5 (some h0) [29] 4 (.int x2) fun hp_10 =>
  (Post hp_10 nx_6)))))
set_option maxHeartbeats 40000000 in
theorem met_X29_init {l : Launch} {g : zG} {d : Nat} {h0 : Nat} {r1 : Option Nat} {x2 : Int32} {r3 : Option Nat} {r4 : Option Nat} {hp : zHp} {nx : Nat} {Post : zHp → Nat → Prop} (hw : wp_X29_init l g d h0 r1 x2 r3 r4 hp nx Post) : zMt l g yX29_init cX29_init 5 none (d + 1) 0 0 [.ref h0, va_rf r1, .int x2, va_rf r3, va_rf r4] hp nx (zQv g Post) := by
  refine z_start (by decide) (by cases r1 <;> cases r3 <;> cases r4 <;> exact Nat.le_of_ble_eq_true rfl) ?_
  intro p e s m below meth c hk hr hin hH hz ls hl
  have hx := hk.1.1
  have hb := hk.1.2.1
  have hown := hk.1.2.2.2.1
  have hts := hk.1.2.2.2.2
  have hS : va_S (zAd g) s.heap s.heap [] := va_S.rf
  have hl : lv_has ls 5 [(0, va_rf (some h0)), (1, va_rf r1), (2, .int x2), (3, va_rf r3), (4, va_rf r4)] := by cases r1 <;> cases r3 <;> cases r4 <;> exact hl
  unfold wp_X29_init at hw
  refine zr_aload_n (r := some h0) hx hb dX29_init_0 rfl (lv_at hl 0 rfl) ?_
  refine zr_aload_n (r := r1) hx hb dX29_init_1 rfl (lv_at hl 1 rfl) ?_
  obtain ⟨a_1, ci_2, fs_3, hp_4, er, he, hc, hA, hkl, eh, hw⟩ := zpt_e hw
  refine zw_putF hk hin hH hz hS er he hA hkl eh (ff_X29_1 hc) (z_narR _ _) (z_fitR _ _) dX29_init_2 (fun H locs hH hz hS => ?_)
  refine zr_aload_n (r := some h0) hx hb dX29_init_5 rfl (lv_at hl 0 rfl) ?_
  refine zr_aload_n (r := r1) hx hb dX29_init_6 rfl (lv_at hl 1 rfl) ?_
  refine zr_aload_n (r := r3) hx hb dX29_init_7 rfl (lv_at hl 3 rfl) ?_
  refine zr_aload (r := r4) hx hb dX29_init_8 (lv_at hl 4 rfl) ?_
  refine zr_callv (zw_runI (As := [va_rf r1, va_rf r3, va_rf r4]) (r := some h0) hk hH hz hS hl.1 rfl hw (cwI 3 hts (lw_meth q1607) rfl rfl rfl (hts _ q178) (hts _ q1923) (hts _ q1606) rfl (by decide +kernel) (z_room (Nat.le_of_ble_eq_true rfl))) rfl rfl (Nat.le_of_ble_eq_true rfl) dX29_init_10 ⟨Nat.le_of_ble_eq_true rfl, Nat.le_of_ble_eq_true rfl⟩) hS (fun hp_5 nx_6 hw H locs hH hz hS => ?_)
  refine zr_aload_n (r := some h0) hx hb dX29_init_13 rfl (lv_at hl 0 rfl) ?_
  refine lv_iload_n hx hb dX29_init_14 rfl (lv_at hl 2 rfl) ?_
  obtain ⟨hbo, hw⟩ := hw
  obtain ⟨a_7, ci_8, fs_9, hp_10, er, he, hc, hA, hkl, eh, hw⟩ := zpt_e hw
  refine zw_putF hk hin hH hz hS er he hA hkl eh (ff_X29_13 hc) (z_nb hbo) (z_fb hbo) dX29_init_15 (fun H locs hH hz hS => ?_)
  exact zr_vret hk hr hH hz hS hw (Nat.le_of_ble_eq_true rfl) (Nat.le_of_ble_eq_true rfl) dX29_init_18
theorem fk_X29_13 {ci : Nat} (h : ci ∈ [29]) : zFk "WhatIfSheet$Compared" 13 ci 4 := by
  simp only [List.mem_cons, List.not_mem_nil, or_false] at h
  rcases h with rfl
  · exact ⟨RX29, TX29, 6, rfl, by decide, q1924⟩
def wp_X29_joined (l : Launch) (g : zG) (d : Nat) (h0 : Nat) (x1 : UInt64) (x3 : UInt64) (hp : zHp) (nx : Nat) (Post : UInt64 → zHp → Nat → Prop) : Prop :=
  (zgI hp (some h0) [29] 4 fun x_4 =>
  (∃ P_27 : UInt64 → Prop, (∀ (x_5 : UInt64), P_27 x_5 →
  (Post x_5 hp nx)) ∧
  (∃ P_26 : Prop, (P_26 →
  P_27 FP.dconst0) ∧
  (∃ P_22 : Prop, (P_22 →
  P_27 FP.dconst1) ∧
  ((x_4 = 0 →
  (((Op.cmpValue (FP.dcmp x1 x3) .l) = 0 →
  P_22) ∧
  (¬ (Op.cmpValue (FP.dcmp x1 x3) .l) = 0 →
  P_26))) ∧
  (¬ x_4 = 0 →
  ((0 ≤ (Op.cmpValue (FP.dcmp x1 x3) .g) →
  P_26) ∧
  (¬ 0 ≤ (Op.cmpValue (FP.dcmp x1 x3) .g) →
  P_22))))))))
set_option maxHeartbeats 40000000 in
theorem met_X29_joined {l : Launch} {g : zG} {d : Nat} {h0 : Nat} {x1 : UInt64} {x3 : UInt64} {hp : zHp} {nx : Nat} {Post : UInt64 → zHp → Nat → Prop} (hw : wp_X29_joined l g d h0 x1 x3 hp nx Post) : zMt l g yX29_joined cX29_joined 5 (some .double) (d + 1) 0 0 [.ref h0, .double x1, .double x3] hp nx (zQd g Post) := by
  refine z_start (by decide) (Nat.le_of_ble_eq_true rfl) ?_
  intro p e s m below meth c hk hr hin hH hz ls hl
  have hx := hk.1.1
  have hb := hk.1.2.1
  have hown := hk.1.2.2.2.1
  have hts := hk.1.2.2.2.2
  have hS : va_S (zAd g) s.heap s.heap [] := va_S.rf
  have hl : lv_has ls 5 [(0, va_rf (some h0)), (1, .double x1), (3, .double x3)] := hl
  unfold wp_X29_joined at hw
  refine zr_aload_n (r := some h0) hx hb dX29_joined_0 rfl (lv_at hl 0 rfl) ?_
  obtain ⟨a_1, ci_2, fs_3, x_4, er, he, hc, hv, hw⟩ := zgI_e hw
  refine zw_get hk hH er he hv (fk_X29_13 hc) dX29_joined_1 ?_
  obtain ⟨P_27, hP_27, hw⟩ := hw
  have hJ_27 : ∀ (x_5 : UInt64) (H : Heap) (locs : List Loc) (ls : Array Slot), P_27 x_5 → lv_has ls 5 [(0, va_rf (some h0)), (1, .double x1), (3, .double x3)] → zHd g hp H → H.size = nx → va_S (zAd g) s.heap H locs → W p l e (zrm (d + 1) 0 0) s m ([.ref h0, .double x1, .double x3] : List Value).toArray below meth c H locs 0 0 (MQ below (zQd g Post) ([.ref h0, .double x1, .double x3] : List Value).toArray s 0 0 (zAd g)) (F0 m 27 ls [.double x_5]) := by
    intro x_5 H locs ls hw hl hH hz hS
    have hw := hP_27 x_5 hw
    exact zr_dret hk hr hH hz hS hw (Nat.le_of_ble_eq_true rfl) (Nat.le_of_ble_eq_true rfl) dX29_joined_27
  obtain ⟨P_26, hP_26, hw⟩ := hw
  have hJ_26 : ∀  (H : Heap) (locs : List Loc) (ls : Array Slot), P_26  → lv_has ls 5 [(0, va_rf (some h0)), (1, .double x1), (3, .double x3)] → zHd g hp H → H.size = nx → va_S (zAd g) s.heap H locs → W p l e (zrm (d + 1) 0 0) s m ([.ref h0, .double x1, .double x3] : List Value).toArray below meth c H locs 0 0 (MQ below (zQd g Post) ([.ref h0, .double x1, .double x3] : List Value).toArray s 0 0 (zAd g)) (F0 m 26 ls []) := by
    intro  H locs ls hw hl hH hz hS
    have hw := hP_26  hw
    refine lv_dconst0 hx hb dX29_joined_26 ?_
    exact hJ_27 FP.dconst0 _ _ _ hw hl hH hz hS
  obtain ⟨P_22, hP_22, hw⟩ := hw
  have hJ_22 : ∀  (H : Heap) (locs : List Loc) (ls : Array Slot), P_22  → lv_has ls 5 [(0, va_rf (some h0)), (1, .double x1), (3, .double x3)] → zHd g hp H → H.size = nx → va_S (zAd g) s.heap H locs → W p l e (zrm (d + 1) 0 0) s m ([.ref h0, .double x1, .double x3] : List Value).toArray below meth c H locs 0 0 (MQ below (zQd g Post) ([.ref h0, .double x1, .double x3] : List Value).toArray s 0 0 (zAd g)) (F0 m 22 ls []) := by
    intro  H locs ls hw hl hH hz hS
    have hw := hP_22  hw
    refine lv_dconst1 hx hb dX29_joined_22 ?_
    refine lv_goto (tgt := 27) hx hb dX29_joined_23 (by decide) ?_
    exact hJ_27 FP.dconst1 _ _ _ hw hl hH hz hS
  refine lv_if_eq (tgt := 16) hx hb dX29_joined_4 (by decide) (fun hc => ?_) (fun hc => ?_)
  · have hw := hw.1 hc
    refine lv_dload_n hx hb dX29_joined_16 rfl (lv_at hl 1 rfl) ?_
    refine lv_dload_n hx hb dX29_joined_17 rfl (lv_at hl 2 rfl) ?_
    refine lv_dcmp hx hb dX29_joined_18 ?_
    refine lv_if_ne (tgt := 26) hx hb dX29_joined_19 (by decide) (fun hc => ?_) (fun hc => ?_)
    · have hw := hw.2 hc
      exact hJ_26  _ _ _ hw hl hH hz hS
    · have hw := hw.1 hc
      exact hJ_22  _ _ _ hw hl hH hz hS
  · have hw := hw.2 hc
    refine lv_dload_n hx hb dX29_joined_7 rfl (lv_at hl 1 rfl) ?_
    refine lv_dload_n hx hb dX29_joined_8 rfl (lv_at hl 2 rfl) ?_
    refine lv_dcmp hx hb dX29_joined_9 ?_
    refine lv_if_ge (tgt := 26) hx hb dX29_joined_10 (by decide) (fun hc => ?_) (fun hc => ?_)
    · have hw := hw.1 hc
      exact hJ_26  _ _ _ hw hl hH hz hS
    · have hw := hw.2 hc
      refine lv_goto (tgt := 22) hx hb dX29_joined_13 (by decide) ?_
      exact hJ_22  _ _ _ hw hl hH hz hS
def wp_X3_init (l : Launch) (g : zG) (d : Nat) (h0 : Nat) (hp : zHp) (nx : Nat) (Post : zHp → Nat → Prop) : Prop :=
  (Post hp nx)
set_option maxHeartbeats 40000000 in
theorem met_X3_init {l : Launch} {g : zG} {d : Nat} {h0 : Nat} {hp : zHp} {nx : Nat} {Post : zHp → Nat → Prop} (hw : wp_X3_init l g d h0 hp nx Post) : zMt l g yX3_init cX3_init 1 none (d + 1) 0 0 [.ref h0] hp nx (zQv g Post) := by
  refine z_start (by decide) (Nat.le_of_ble_eq_true rfl) ?_
  intro p e s m below meth c hk hr hin hH hz ls hl
  have hx := hk.1.1
  have hb := hk.1.2.1
  have hown := hk.1.2.2.2.1
  have hts := hk.1.2.2.2.2
  have hS : va_S (zAd g) s.heap s.heap [] := va_S.rf
  have hl : lv_has ls 1 [(0, va_rf (some h0))] := hl
  unfold wp_X3_init at hw
  refine zr_aload_n (r := some h0) hx hb dX3_init_0 rfl (lv_at hl 0 rfl) ?_
  refine W.objInit (a := h0) hx hb hown (hts _ q674) (hts _ q206) (hts _ q207) rfl (by rw [hk.1.2.2.1]; exact hl.1) rfl dX3_init_1 (Nat.le_add_left 1 d) (Nat.le_trans (Nat.le_of_ble_eq_true rfl : _ ≤ 64) (by show 64 ≤ 64 * (d + 1); omega)) ?_
  refine W.eq (g2 := F0 m 4 ls []) rfl ?_
  exact zr_vret hk hr hH hz hS hw (Nat.le_of_ble_eq_true rfl) (Nat.le_of_ble_eq_true rfl) dX3_init_4
theorem fk_X30_17 {ci : Nat} (h : ci ∈ [30]) : zFk "WhatIfSheet$Formula" 17 ci 2 := by
  simp only [List.mem_cons, List.not_mem_nil, or_false] at h
  rcases h with rfl
  · exact ⟨RX30, TX30, 3, rfl, by decide, q1945⟩
def wp_X30_isAsking (l : Launch) (g : zG) (d : Nat) (mc ms : Nat) (h0 : Nat) (x1 : Int32) (hp : zHp) (nx : Nat) (Post : Int32 → zHp → Nat → Prop) : Prop :=
  (zgR hp (some h0) [30] 2 fun r_4 =>
  (∃ c_5 s_6 : Nat, 0 + c_5 ≤ mc ∧ 0 + s_6 ≤ ms ∧ zMt l g yJ15_valueOf cJ15_valueOf 1 (some (.object "java/lang/Integer")) d c_5 s_6 [.int x1] hp nx (zQq g fun r_9 hp_7 nx_8 =>
  ((0 + c_5) ≤ mc ∧ (0 + s_6) ≤ ms ∧ zo hp_7 r_4 [36] fun a_13 ci_14 fs_15 => zMt l g yJ27_contains cJ27_contains 2 (some .boolean) d 0 0 (.ref a_13 :: [va_rf r_9]) hp_7 nx_8 (zQi g fun x_12 hp_10 nx_11 =>
  ((0 + c_5) ≤ mc ∧ (0 + s_6) ≤ ms ∧ ((x_12 = 0 ∨ x_12 = 1) ∧ Post x_12 hp_10 nx_11)))))))
set_option maxHeartbeats 40000000 in
theorem met_X30_isAsking {l : Launch} {g : zG} {d : Nat} {mc ms : Nat} {h0 : Nat} {x1 : Int32} {hp : zHp} {nx : Nat} {Post : Int32 → zHp → Nat → Prop} (hw : wp_X30_isAsking l g d mc ms h0 x1 hp nx Post) : zMt l g yX30_isAsking cX30_isAsking 2 (some .boolean) (d + 1) mc ms [.ref h0, .int x1] hp nx (zQi g Post) := by
  refine z_start (by decide) (Nat.le_of_ble_eq_true rfl) ?_
  intro p e s m below meth c hk hr hin hH hz ls hl
  have hx := hk.1.1
  have hb := hk.1.2.1
  have hown := hk.1.2.2.2.1
  have hts := hk.1.2.2.2.2
  have hS : va_S (zAd g) s.heap s.heap [] := va_S.rf
  have hl : lv_has ls 2 [(0, va_rf (some h0)), (1, .int x1)] := hl
  unfold wp_X30_isAsking at hw
  refine zr_aload_n (r := some h0) hx hb dX30_isAsking_0 rfl (lv_at hl 0 rfl) ?_
  obtain ⟨a_1, ci_2, fs_3, r_4, er, he, hc, hv, hw⟩ := zgR_e hw
  refine zw_get hk hH er he hv (fk_X30_17 hc) dX30_isAsking_1 ?_
  refine lv_iload_n hx hb dX30_isAsking_4 rfl (lv_at hl 1 rfl) ?_
  obtain ⟨c_5, s_6, hcl, hsl, hw⟩ := hw
  refine zr_callq (zr_runS (As := [.int x1]) hk hH hz hS hl.1 hw (va_cwS 1 hts (lw_S q734 q735 q149 q736) rfl rfl rfl (by decide +kernel) (z_room (Nat.le_of_ble_eq_true rfl))) rfl rfl (by simp only [List.map_cons, List.map_nil, z_cat]; exact Nat.le_of_ble_eq_true rfl) dX30_isAsking_5 ⟨hcl, hsl⟩) hS (fun r_9 hp_7 nx_8 hw H locs hH hz hS => ?_)
  obtain ⟨hcl, hsl, hw⟩ := hw
  obtain ⟨a_13, ci_14, fs_15, er, he, hc, hw⟩ := zo_e hw
  obtain rfl := List.mem_singleton.mp hc
  refine zr_calli (zw_runV (As := [va_rf r_9]) hk hH hz hS hl.1 er hw (cwV 1 hts (lw_V q754 q755 q756 q173 q757) rfl rfl rfl (by decide +kernel) (z_room (Nat.le_of_ble_eq_true rfl))) he rfl rfl rfl (Nat.le_of_ble_eq_true rfl) dX30_isAsking_8 ⟨hcl, hsl⟩) hS (fun x_12 hp_10 nx_11 hw H locs hH hz hS => ?_)
  obtain ⟨hkc, hks, hw⟩ := hw
  exact zr_zret hk hr hH hz hS hw.1 hw.2 hkc hks dX30_isAsking_11
theorem ff_X30_7 {ci : Nat} (h : ci ∈ [30]) : zFf "WhatIfSheet$Formula" 7 ci 0 (.object "WhatIfSheet$Node") := by
  simp only [List.mem_cons, List.not_mem_nil, or_false] at h
  rcases h with rfl
  · exact ⟨RX30, TX30, 3, rfl, by decide, q1941, rfl, rfl, by decide +kernel⟩
theorem ff_X30_13 {ci : Nat} (h : ci ∈ [30]) : zFf "WhatIfSheet$Formula" 13 ci 1 (.object "java/util/BitSet") := by
  simp only [List.mem_cons, List.not_mem_nil, or_false] at h
  rcases h with rfl
  · exact ⟨RX30, TX30, 3, rfl, by decide, q1943, rfl, rfl, by decide +kernel⟩
theorem ff_X30_17 {ci : Nat} (h : ci ∈ [30]) : zFf "WhatIfSheet$Formula" 17 ci 2 (.object "java/util/LinkedList") := by
  simp only [List.mem_cons, List.not_mem_nil, or_false] at h
  rcases h with rfl
  · exact ⟨RX30, TX30, 3, rfl, by decide, q1945, rfl, rfl, by decide +kernel⟩
def wp_X30_init (l : Launch) (g : zG) (d : Nat) (h0 : Nat) (r1 : Option Nat) (r2 : Option Nat) (r3 : Option Nat) (hp : zHp) (nx : Nat) (Post : zHp → Nat → Prop) : Prop :=
  (zpt g hp (some h0) [30] 0 (va_rf r1) fun hp_4 =>
  (zpt g hp_4 (some h0) [30] 1 (va_rf r2) fun hp_8 =>
  (zpt g hp_8 (some h0) [30] 2 (va_rf r3) fun hp_12 =>
  (Post hp_12 nx))))
set_option maxHeartbeats 40000000 in
theorem met_X30_init {l : Launch} {g : zG} {d : Nat} {h0 : Nat} {r1 : Option Nat} {r2 : Option Nat} {r3 : Option Nat} {hp : zHp} {nx : Nat} {Post : zHp → Nat → Prop} (hw : wp_X30_init l g d h0 r1 r2 r3 hp nx Post) : zMt l g yX30_init cX30_init 4 none (d + 1) 0 0 [.ref h0, va_rf r1, va_rf r2, va_rf r3] hp nx (zQv g Post) := by
  refine z_start (by decide) (by cases r1 <;> cases r2 <;> cases r3 <;> exact Nat.le_of_ble_eq_true rfl) ?_
  intro p e s m below meth c hk hr hin hH hz ls hl
  have hx := hk.1.1
  have hb := hk.1.2.1
  have hown := hk.1.2.2.2.1
  have hts := hk.1.2.2.2.2
  have hS : va_S (zAd g) s.heap s.heap [] := va_S.rf
  have hl : lv_has ls 4 [(0, va_rf (some h0)), (1, va_rf r1), (2, va_rf r2), (3, va_rf r3)] := by cases r1 <;> cases r2 <;> cases r3 <;> exact hl
  unfold wp_X30_init at hw
  refine zr_aload_n (r := some h0) hx hb dX30_init_0 rfl (lv_at hl 0 rfl) ?_
  refine W.objInit (a := h0) hx hb hown (hts _ q1940) (hts _ q206) (hts _ q207) rfl (by rw [hk.1.2.2.1]; exact hl.1) rfl dX30_init_1 (Nat.le_add_left 1 d) (Nat.le_trans (Nat.le_of_ble_eq_true rfl : _ ≤ 64) (by show 64 ≤ 64 * (d + 1); omega)) ?_
  refine W.eq (g2 := F0 m 4 ls []) rfl ?_
  refine zr_aload_n (r := some h0) hx hb dX30_init_4 rfl (lv_at hl 0 rfl) ?_
  refine zr_aload_n (r := r1) hx hb dX30_init_5 rfl (lv_at hl 1 rfl) ?_
  obtain ⟨a_1, ci_2, fs_3, hp_4, er, he, hc, hA, hkl, eh, hw⟩ := zpt_e hw
  refine zw_putF hk hin hH hz hS er he hA hkl eh (ff_X30_7 hc) (z_narR _ _) (z_fitR _ _) dX30_init_6 (fun H locs hH hz hS => ?_)
  refine zr_aload_n (r := some h0) hx hb dX30_init_9 rfl (lv_at hl 0 rfl) ?_
  refine zr_aload_n (r := r2) hx hb dX30_init_10 rfl (lv_at hl 2 rfl) ?_
  obtain ⟨a_5, ci_6, fs_7, hp_8, er, he, hc, hA, hkl, eh, hw⟩ := zpt_e hw
  refine zw_putF hk hin hH hz hS er he hA hkl eh (ff_X30_13 hc) (z_narR _ _) (z_fitR _ _) dX30_init_11 (fun H locs hH hz hS => ?_)
  refine zr_aload_n (r := some h0) hx hb dX30_init_14 rfl (lv_at hl 0 rfl) ?_
  refine zr_aload_n (r := r3) hx hb dX30_init_15 rfl (lv_at hl 3 rfl) ?_
  obtain ⟨a_9, ci_10, fs_11, hp_12, er, he, hc, hA, hkl, eh, hw⟩ := zpt_e hw
  refine zw_putF hk hin hH hz hS er he hA hkl eh (ff_X30_17 hc) (z_narR _ _) (z_fitR _ _) dX30_init_16 (fun H locs hH hz hS => ?_)
  exact zr_vret hk hr hH hz hS hw (Nat.le_of_ble_eq_true rfl) (Nat.le_of_ble_eq_true rfl) dX30_init_19
theorem fk_X31_16 {ci : Nat} (h : ci ∈ [31]) : zFk "WhatIfSheet$Table" 16 ci 2 := by
  simp only [List.mem_cons, List.not_mem_nil, or_false] at h
  rcases h with rfl
  · exact ⟨RX31, TX31, 4, rfl, by decide, q2371⟩
def wp_X31_cases (l : Launch) (g : zG) (d : Nat) (h0 : Nat) (hp : zHp) (nx : Nat) (Post : Int32 → zHp → Nat → Prop) : Prop :=
  (zgR hp (some h0) [31] 2 fun r_4 =>
  (zo hp r_4 [32] fun a_14 ci_15 fs_16 => zMt l g yX32_size cX32_size 1 (some .int) d 0 0 (.ref a_14 :: []) hp nx (zQi g fun x_7 hp_5 nx_6 =>
  (zo hp_5 (some h0) [31] fun a_11 ci_12 fs_13 => zMt l g yX31_many cX31_many 1 (some .int) d 0 0 (.ref a_11 :: []) hp_5 nx_6 (zQi g fun x_10 hp_8 nx_9 =>
  (Post (x_7 * x_10) hp_8 nx_9))))))
set_option maxHeartbeats 40000000 in
theorem met_X31_cases {l : Launch} {g : zG} {d : Nat} {h0 : Nat} {hp : zHp} {nx : Nat} {Post : Int32 → zHp → Nat → Prop} (hw : wp_X31_cases l g d h0 hp nx Post) : zMt l g yX31_cases cX31_cases 1 (some .int) (d + 1) 0 0 [.ref h0] hp nx (zQi g Post) := by
  refine z_start (by decide) (Nat.le_of_ble_eq_true rfl) ?_
  intro p e s m below meth c hk hr hin hH hz ls hl
  have hx := hk.1.1
  have hb := hk.1.2.1
  have hown := hk.1.2.2.2.1
  have hts := hk.1.2.2.2.2
  have hS : va_S (zAd g) s.heap s.heap [] := va_S.rf
  have hl : lv_has ls 1 [(0, va_rf (some h0))] := hl
  unfold wp_X31_cases at hw
  refine zr_aload_n (r := some h0) hx hb dX31_cases_0 rfl (lv_at hl 0 rfl) ?_
  obtain ⟨a_1, ci_2, fs_3, r_4, er, he, hc, hv, hw⟩ := zgR_e hw
  refine zw_get hk hH er he hv (fk_X31_16 hc) dX31_cases_1 ?_
  obtain ⟨a_14, ci_15, fs_16, er, he, hc, hw⟩ := zo_e hw
  obtain rfl := List.mem_singleton.mp hc
  refine zr_calli (zw_runV (As := []) hk hH hz hS hl.1 er hw (cwV 0 hts (lw_V q1172 q1173 q1174 q196 q1175) rfl rfl rfl (by decide +kernel) (z_room (Nat.le_of_ble_eq_true rfl))) he rfl rfl rfl (Nat.le_of_ble_eq_true rfl) dX31_cases_4 ⟨Nat.le_of_ble_eq_true rfl, Nat.le_of_ble_eq_true rfl⟩) hS (fun x_7 hp_5 nx_6 hw H locs hH hz hS => ?_)
  refine zr_aload_n (r := some h0) hx hb dX31_cases_7 rfl (lv_at hl 0 rfl) ?_
  obtain ⟨a_11, ci_12, fs_13, er, he, hc, hw⟩ := zo_e hw
  obtain rfl := List.mem_singleton.mp hc
  refine zr_calli (zw_runV (As := []) hk hH hz hS hl.1 er hw (cwV 0 hts (lw_V q1176 q1177 q1178 q195 q1179) rfl rfl rfl (by decide +kernel) (z_room (Nat.le_of_ble_eq_true rfl))) he rfl rfl rfl (Nat.le_of_ble_eq_true rfl) dX31_cases_8 ⟨Nat.le_of_ble_eq_true rfl, Nat.le_of_ble_eq_true rfl⟩) hS (fun x_10 hp_8 nx_9 hw H locs hH hz hS => ?_)
  refine lv_imul hx hb dX31_cases_11 ?_
  exact zr_iret hk hr hH hz hS hw (Nat.le_of_ble_eq_true rfl) (Nat.le_of_ble_eq_true rfl) dX31_cases_12
theorem fk_X31_20 {ci : Nat} (h : ci ∈ [31]) : zFk "WhatIfSheet$Table" 20 ci 3 := by
  simp only [List.mem_cons, List.not_mem_nil, or_false] at h
  rcases h with rfl
  · exact ⟨RX31, TX31, 4, rfl, by decide, q2373⟩
def wp_X31_many (l : Launch) (g : zG) (d : Nat) (h0 : Nat) (hp : zHp) (nx : Nat) (Post : Int32 → zHp → Nat → Prop) : Prop :=
  (zgR hp (some h0) [31] 3 fun r_4 =>
  (∃ P_18 : Int32 → zHp → Nat → Prop, (∀ (x_5 : Int32) (hp_6 : zHp) (nx_7 : Nat), P_18 x_5 hp_6 nx_7 →
  (Post x_5 hp_6 nx_7)) ∧
  ((r_4 = none →
  P_18 (1 : Int32) hp nx) ∧
  (¬ r_4 = none →
  (zgR hp (some h0) [31] 3 fun r_11 =>
  (zo hp r_11 [32] fun a_15 ci_16 fs_17 => zMt l g yX32_size cX32_size 1 (some .int) d 0 0 (.ref a_15 :: []) hp nx (zQi g fun x_14 hp_12 nx_13 =>
  P_18 x_14 hp_12 nx_13)))))))
set_option maxHeartbeats 40000000 in
theorem met_X31_many {l : Launch} {g : zG} {d : Nat} {h0 : Nat} {hp : zHp} {nx : Nat} {Post : Int32 → zHp → Nat → Prop} (hw : wp_X31_many l g d h0 hp nx Post) : zMt l g yX31_many cX31_many 1 (some .int) (d + 1) 0 0 [.ref h0] hp nx (zQi g Post) := by
  refine z_start (by decide) (Nat.le_of_ble_eq_true rfl) ?_
  intro p e s m below meth c hk hr hin hH hz ls hl
  have hx := hk.1.1
  have hb := hk.1.2.1
  have hown := hk.1.2.2.2.1
  have hts := hk.1.2.2.2.2
  have hS : va_S (zAd g) s.heap s.heap [] := va_S.rf
  have hl : lv_has ls 1 [(0, va_rf (some h0))] := hl
  unfold wp_X31_many at hw
  refine zr_aload_n (r := some h0) hx hb dX31_many_0 rfl (lv_at hl 0 rfl) ?_
  obtain ⟨a_1, ci_2, fs_3, r_4, er, he, hc, hv, hw⟩ := zgR_e hw
  refine zw_get hk hH er he hv (fk_X31_20 hc) dX31_many_1 ?_
  obtain ⟨P_18, hP_18, hw⟩ := hw
  have hJ_18 : ∀ (x_5 : Int32) (hp_6 : zHp) (nx_7 : Nat) (H : Heap) (locs : List Loc) (ls : Array Slot), P_18 x_5 hp_6 nx_7 → lv_has ls 1 [(0, va_rf (some h0))] → zHd g hp_6 H → H.size = nx_7 → va_S (zAd g) s.heap H locs → W p l e (zrm (d + 1) 0 0) s m ([.ref h0] : List Value).toArray below meth c H locs 0 0 (MQ below (zQi g Post) ([.ref h0] : List Value).toArray s 0 0 (zAd g)) (F0 m 18 ls [.int x_5]) := by
    intro x_5 hp_6 nx_7 H locs ls hw hl hH hz hS
    have hw := hP_18 x_5 hp_6 nx_7 hw
    exact zr_iret hk hr hH hz hS hw (Nat.le_of_ble_eq_true rfl) (Nat.le_of_ble_eq_true rfl) dX31_many_18
  refine zr_ifnonnull (r := r_4) (tgt := 11) hx hb dX31_many_4 (by decide) (fun hc => ?_) (fun hc => ?_)
  · have hw := hw.2 hc
    refine zr_aload_n (r := some h0) hx hb dX31_many_11 rfl (lv_at hl 0 rfl) ?_
    obtain ⟨a_8, ci_9, fs_10, r_11, er, he, hc, hv, hw⟩ := zgR_e hw
    refine zw_get hk hH er he hv (fk_X31_20 hc) dX31_many_12 ?_
    obtain ⟨a_15, ci_16, fs_17, er, he, hc, hw⟩ := zo_e hw
    obtain rfl := List.mem_singleton.mp hc
    refine zr_calli (zw_runV (As := []) hk hH hz hS hl.1 er hw (cwV 0 hts (lw_V q1172 q1173 q1174 q196 q1175) rfl rfl rfl (by decide +kernel) (z_room (Nat.le_of_ble_eq_true rfl))) he rfl rfl rfl (Nat.le_of_ble_eq_true rfl) dX31_many_15 ⟨Nat.le_of_ble_eq_true rfl, Nat.le_of_ble_eq_true rfl⟩) hS (fun x_14 hp_12 nx_13 hw H locs hH hz hS => ?_)
    exact hJ_18 x_14 hp_12 nx_13 _ _ _ hw hl hH hz hS
  · have hw := hw.1 hc
    refine lv_iconst (v := (1 : Int32)) hx hb dX31_many_7 (by decide) ?_
    refine lv_goto (tgt := 18) hx hb dX31_many_8 (by decide) ?_
    exact hJ_18 (1 : Int32) hp nx _ _ _ hw hl hH hz hS
theorem fk_X31_32 {ci : Nat} (h : ci ∈ [32]) : zFk "WhatIfSheet$Table" 32 ci 0 := by
  simp only [List.mem_cons, List.not_mem_nil, or_false] at h
  rcases h with rfl
  · exact ⟨RX32, TX32, 2, rfl, by decide, q2354⟩
def wp_X31_varies (l : Launch) (g : zG) (d : Nat) (h0 : Nat) (x1 : Int32) (hp : zHp) (nx : Nat) (Post : Int32 → zHp → Nat → Prop) : Prop :=
  (zgR hp (some h0) [31] 2 fun r_4 =>
  (zgI hp r_4 [32] 0 fun x_8 =>
  (∃ P_34 : Int32 → Prop, (∀ (x_9 : Int32), P_34 x_9 →
  (((x_9 = 0 ∨ x_9 = 1) ∧ Post x_9 hp nx))) ∧
  (∃ P_29 : Prop, (P_29 →
  P_34 (1 : Int32)) ∧
  ((x_8 = x1 →
  P_29) ∧
  (¬ x_8 = x1 →
  (zgR hp (some h0) [31] 3 fun r_13 =>
  (∃ P_33 : Prop, (P_33 →
  P_34 (0 : Int32)) ∧
  ((r_13 = none →
  P_33) ∧
  (¬ r_13 = none →
  (zgR hp (some h0) [31] 3 fun r_17 =>
  (zgI hp r_17 [32] 0 fun x_21 =>
  ((x_21 = x1 →
  P_29) ∧
  (¬ x_21 = x1 →
  P_33))))))))))))))
set_option maxHeartbeats 40000000 in
theorem met_X31_varies {l : Launch} {g : zG} {d : Nat} {h0 : Nat} {x1 : Int32} {hp : zHp} {nx : Nat} {Post : Int32 → zHp → Nat → Prop} (hw : wp_X31_varies l g d h0 x1 hp nx Post) : zMt l g yX31_varies cX31_varies 2 (some .boolean) (d + 1) 0 0 [.ref h0, .int x1] hp nx (zQi g Post) := by
  refine z_start (by decide) (Nat.le_of_ble_eq_true rfl) ?_
  intro p e s m below meth c hk hr hin hH hz ls hl
  have hx := hk.1.1
  have hb := hk.1.2.1
  have hown := hk.1.2.2.2.1
  have hts := hk.1.2.2.2.2
  have hS : va_S (zAd g) s.heap s.heap [] := va_S.rf
  have hl : lv_has ls 2 [(0, va_rf (some h0)), (1, .int x1)] := hl
  unfold wp_X31_varies at hw
  refine zr_aload_n (r := some h0) hx hb dX31_varies_0 rfl (lv_at hl 0 rfl) ?_
  obtain ⟨a_1, ci_2, fs_3, r_4, er, he, hc, hv, hw⟩ := zgR_e hw
  refine zw_get hk hH er he hv (fk_X31_16 hc) dX31_varies_1 ?_
  obtain ⟨a_5, ci_6, fs_7, x_8, er, he, hc, hv, hw⟩ := zgI_e hw
  refine zw_get hk hH er he hv (fk_X31_32 hc) dX31_varies_4 ?_
  refine lv_iload_n hx hb dX31_varies_7 rfl (lv_at hl 1 rfl) ?_
  obtain ⟨P_34, hP_34, hw⟩ := hw
  have hJ_34 : ∀ (x_9 : Int32) (H : Heap) (locs : List Loc) (ls : Array Slot), P_34 x_9 → lv_has ls 2 [(0, va_rf (some h0)), (1, .int x1)] → zHd g hp H → H.size = nx → va_S (zAd g) s.heap H locs → W p l e (zrm (d + 1) 0 0) s m ([.ref h0, .int x1] : List Value).toArray below meth c H locs 0 0 (MQ below (zQi g Post) ([.ref h0, .int x1] : List Value).toArray s 0 0 (zAd g)) (F0 m 34 ls [.int x_9]) := by
    intro x_9 H locs ls hw hl hH hz hS
    have hw := hP_34 x_9 hw
    exact zr_zret hk hr hH hz hS hw.1 hw.2 (Nat.le_of_ble_eq_true rfl) (Nat.le_of_ble_eq_true rfl) dX31_varies_34
  obtain ⟨P_29, hP_29, hw⟩ := hw
  have hJ_29 : ∀  (H : Heap) (locs : List Loc) (ls : Array Slot), P_29  → lv_has ls 2 [(0, va_rf (some h0)), (1, .int x1)] → zHd g hp H → H.size = nx → va_S (zAd g) s.heap H locs → W p l e (zrm (d + 1) 0 0) s m ([.ref h0, .int x1] : List Value).toArray below meth c H locs 0 0 (MQ below (zQi g Post) ([.ref h0, .int x1] : List Value).toArray s 0 0 (zAd g)) (F0 m 29 ls []) := by
    intro  H locs ls hw hl hH hz hS
    have hw := hP_29  hw
    refine lv_iconst (v := (1 : Int32)) hx hb dX31_varies_29 (by decide) ?_
    refine lv_goto (tgt := 34) hx hb dX31_varies_30 (by decide) ?_
    exact hJ_34 (1 : Int32) _ _ _ hw hl hH hz hS
  refine lv_icmp_eq (tgt := 29) hx hb dX31_varies_8 (by decide) (fun hc => ?_) (fun hc => ?_)
  · have hw := hw.1 hc
    exact hJ_29  _ _ _ hw hl hH hz hS
  · have hw := hw.2 hc
    refine zr_aload_n (r := some h0) hx hb dX31_varies_11 rfl (lv_at hl 0 rfl) ?_
    obtain ⟨a_10, ci_11, fs_12, r_13, er, he, hc, hv, hw⟩ := zgR_e hw
    refine zw_get hk hH er he hv (fk_X31_20 hc) dX31_varies_12 ?_
    obtain ⟨P_33, hP_33, hw⟩ := hw
    have hJ_33 : ∀  (H : Heap) (locs : List Loc) (ls : Array Slot), P_33  → lv_has ls 2 [(0, va_rf (some h0)), (1, .int x1)] → zHd g hp H → H.size = nx → va_S (zAd g) s.heap H locs → W p l e (zrm (d + 1) 0 0) s m ([.ref h0, .int x1] : List Value).toArray below meth c H locs 0 0 (MQ below (zQi g Post) ([.ref h0, .int x1] : List Value).toArray s 0 0 (zAd g)) (F0 m 33 ls []) := by
      intro  H locs ls hw hl hH hz hS
      have hw := hP_33  hw
      refine lv_iconst (v := (0 : Int32)) hx hb dX31_varies_33 (by decide) ?_
      exact hJ_34 (0 : Int32) _ _ _ hw hl hH hz hS
    refine zr_ifnull (r := r_13) (tgt := 33) hx hb dX31_varies_15 (by decide) (fun hc => ?_) (fun hc => ?_)
    · have hw := hw.1 hc
      exact hJ_33  _ _ _ hw hl hH hz hS
    · have hw := hw.2 hc
      refine zr_aload_n (r := some h0) hx hb dX31_varies_18 rfl (lv_at hl 0 rfl) ?_
      obtain ⟨a_14, ci_15, fs_16, r_17, er, he, hc, hv, hw⟩ := zgR_e hw
      refine zw_get hk hH er he hv (fk_X31_20 hc) dX31_varies_19 ?_
      obtain ⟨a_18, ci_19, fs_20, x_21, er, he, hc, hv, hw⟩ := zgI_e hw
      refine zw_get hk hH er he hv (fk_X31_32 hc) dX31_varies_22 ?_
      refine lv_iload_n hx hb dX31_varies_25 rfl (lv_at hl 1 rfl) ?_
      refine lv_icmp_ne (tgt := 33) hx hb dX31_varies_26 (by decide) (fun hc => ?_) (fun hc => ?_)
      · have hw := hw.2 hc
        exact hJ_33  _ _ _ hw hl hH hz hS
      · have hw := hw.1 hc
        exact hJ_29  _ _ _ hw hl hH hz hS
theorem ff_X31_7 {ci : Nat} (h : ci ∈ [31]) : zFf "WhatIfSheet$Table" 7 ci 0 .int := by
  simp only [List.mem_cons, List.not_mem_nil, or_false] at h
  rcases h with rfl
  · exact ⟨RX31, TX31, 4, rfl, by decide, q2367, rfl, rfl, by decide +kernel⟩
theorem ff_X31_13 {ci : Nat} (h : ci ∈ [31]) : zFf "WhatIfSheet$Table" 13 ci 1 .int := by
  simp only [List.mem_cons, List.not_mem_nil, or_false] at h
  rcases h with rfl
  · exact ⟨RX31, TX31, 4, rfl, by decide, q2369, rfl, rfl, by decide +kernel⟩
theorem ff_X31_16 {ci : Nat} (h : ci ∈ [31]) : zFf "WhatIfSheet$Table" 16 ci 2 (.object "WhatIfSheet$Axis") := by
  simp only [List.mem_cons, List.not_mem_nil, or_false] at h
  rcases h with rfl
  · exact ⟨RX31, TX31, 4, rfl, by decide, q2371, rfl, rfl, by decide +kernel⟩
theorem ff_X31_20 {ci : Nat} (h : ci ∈ [31]) : zFf "WhatIfSheet$Table" 20 ci 3 (.object "WhatIfSheet$Axis") := by
  simp only [List.mem_cons, List.not_mem_nil, or_false] at h
  rcases h with rfl
  · exact ⟨RX31, TX31, 4, rfl, by decide, q2373, rfl, rfl, by decide +kernel⟩
def wp_X31_init (l : Launch) (g : zG) (d : Nat) (h0 : Nat) (x1 : Int32) (x2 : Int32) (r3 : Option Nat) (r4 : Option Nat) (hp : zHp) (nx : Nat) (Post : zHp → Nat → Prop) : Prop :=
  (zpt g hp (some h0) [31] 0 (.int x1) fun hp_4 =>
  (zpt g hp_4 (some h0) [31] 1 (.int x2) fun hp_8 =>
  (zpt g hp_8 (some h0) [31] 2 (va_rf r3) fun hp_12 =>
  (zpt g hp_12 (some h0) [31] 3 (va_rf r4) fun hp_16 =>
  (Post hp_16 nx)))))
set_option maxHeartbeats 40000000 in
theorem met_X31_init {l : Launch} {g : zG} {d : Nat} {h0 : Nat} {x1 : Int32} {x2 : Int32} {r3 : Option Nat} {r4 : Option Nat} {hp : zHp} {nx : Nat} {Post : zHp → Nat → Prop} (hw : wp_X31_init l g d h0 x1 x2 r3 r4 hp nx Post) : zMt l g yX31_init cX31_init 5 none (d + 1) 0 0 [.ref h0, .int x1, .int x2, va_rf r3, va_rf r4] hp nx (zQv g Post) := by
  refine z_start (by decide) (by cases r3 <;> cases r4 <;> exact Nat.le_of_ble_eq_true rfl) ?_
  intro p e s m below meth c hk hr hin hH hz ls hl
  have hx := hk.1.1
  have hb := hk.1.2.1
  have hown := hk.1.2.2.2.1
  have hts := hk.1.2.2.2.2
  have hS : va_S (zAd g) s.heap s.heap [] := va_S.rf
  have hl : lv_has ls 5 [(0, va_rf (some h0)), (1, .int x1), (2, .int x2), (3, va_rf r3), (4, va_rf r4)] := by cases r3 <;> cases r4 <;> exact hl
  unfold wp_X31_init at hw
  refine zr_aload_n (r := some h0) hx hb dX31_init_0 rfl (lv_at hl 0 rfl) ?_
  refine W.objInit (a := h0) hx hb hown (hts _ q2366) (hts _ q206) (hts _ q207) rfl (by rw [hk.1.2.2.1]; exact hl.1) rfl dX31_init_1 (Nat.le_add_left 1 d) (Nat.le_trans (Nat.le_of_ble_eq_true rfl : _ ≤ 64) (by show 64 ≤ 64 * (d + 1); omega)) ?_
  refine W.eq (g2 := F0 m 4 ls []) rfl ?_
  refine zr_aload_n (r := some h0) hx hb dX31_init_4 rfl (lv_at hl 0 rfl) ?_
  refine lv_iload_n hx hb dX31_init_5 rfl (lv_at hl 1 rfl) ?_
  obtain ⟨a_1, ci_2, fs_3, hp_4, er, he, hc, hA, hkl, eh, hw⟩ := zpt_e hw
  refine zw_putF hk hin hH hz hS er he hA hkl eh (ff_X31_7 hc) rfl rfl dX31_init_6 (fun H locs hH hz hS => ?_)
  refine zr_aload_n (r := some h0) hx hb dX31_init_9 rfl (lv_at hl 0 rfl) ?_
  refine lv_iload_n hx hb dX31_init_10 rfl (lv_at hl 2 rfl) ?_
  obtain ⟨a_5, ci_6, fs_7, hp_8, er, he, hc, hA, hkl, eh, hw⟩ := zpt_e hw
  refine zw_putF hk hin hH hz hS er he hA hkl eh (ff_X31_13 hc) rfl rfl dX31_init_11 (fun H locs hH hz hS => ?_)
  refine zr_aload_n (r := some h0) hx hb dX31_init_14 rfl (lv_at hl 0 rfl) ?_
  refine zr_aload_n (r := r3) hx hb dX31_init_15 rfl (lv_at hl 3 rfl) ?_
  obtain ⟨a_9, ci_10, fs_11, hp_12, er, he, hc, hA, hkl, eh, hw⟩ := zpt_e hw
  refine zw_putF hk hin hH hz hS er he hA hkl eh (ff_X31_16 hc) (z_narR _ _) (z_fitR _ _) dX31_init_16 (fun H locs hH hz hS => ?_)
  refine zr_aload_n (r := some h0) hx hb dX31_init_19 rfl (lv_at hl 0 rfl) ?_
  refine zr_aload (r := r4) hx hb dX31_init_20 (lv_at hl 4 rfl) ?_
  obtain ⟨a_13, ci_14, fs_15, hp_16, er, he, hc, hA, hkl, eh, hw⟩ := zpt_e hw
  refine zw_putF hk hin hH hz hS er he hA hkl eh (ff_X31_20 hc) (z_narR _ _) (z_fitR _ _) dX31_init_22 (fun H locs hH hz hS => ?_)
  exact zr_vret hk hr hH hz hS hw (Nat.le_of_ble_eq_true rfl) (Nat.le_of_ble_eq_true rfl) dX31_init_25
theorem fk_X32_13 {ci : Nat} (h : ci ∈ [32]) : zFk "WhatIfSheet$Axis" 13 ci 1 := by
  simp only [List.mem_cons, List.not_mem_nil, or_false] at h
  rcases h with rfl
  · exact ⟨RX32, TX32, 2, rfl, by decide, q2356⟩
def wp_X32_size (l : Launch) (g : zG) (d : Nat) (h0 : Nat) (hp : zHp) (nx : Nat) (Post : Int32 → zHp → Nat → Prop) : Prop :=
  (zgR hp (some h0) [32] 1 fun r_4 =>
  (zln (g.2.1 1) hp r_4 fun x_7 =>
  (Post x_7 hp nx)))
set_option maxHeartbeats 40000000 in
theorem met_X32_size {l : Launch} {g : zG} {d : Nat} {h0 : Nat} {hp : zHp} {nx : Nat} {Post : Int32 → zHp → Nat → Prop} (hw : wp_X32_size l g d h0 hp nx Post) : zMt l g yX32_size cX32_size 1 (some .int) (d + 1) 0 0 [.ref h0] hp nx (zQi g Post) := by
  refine z_start (by decide) (Nat.le_of_ble_eq_true rfl) ?_
  intro p e s m below meth c hk hr hin hH hz ls hl
  have hx := hk.1.1
  have hb := hk.1.2.1
  have hown := hk.1.2.2.2.1
  have hts := hk.1.2.2.2.2
  have hS : va_S (zAd g) s.heap s.heap [] := va_S.rf
  have hl : lv_has ls 1 [(0, va_rf (some h0))] := hl
  unfold wp_X32_size at hw
  refine zr_aload_n (r := some h0) hx hb dX32_size_0 rfl (lv_at hl 0 rfl) ?_
  obtain ⟨a_1, ci_2, fs_3, r_4, er, he, hc, hv, hw⟩ := zgR_e hw
  refine zw_get hk hH er he hv (fk_X32_13 hc) dX32_size_1 ?_
  obtain ⟨a_5, v_6, er, he, hw⟩ := zln_e hw
  refine zw_alen hk hH 1 er he rfl dX32_size_4 ?_
  generalize Int32.ofNat v_6.1 = x_7 at hw ⊢
  exact zr_iret hk hr hH hz hS hw (Nat.le_of_ble_eq_true rfl) (Nat.le_of_ble_eq_true rfl) dX32_size_5
theorem ff_X32_7 {ci : Nat} (h : ci ∈ [32]) : zFf "WhatIfSheet$Axis" 7 ci 0 .int := by
  simp only [List.mem_cons, List.not_mem_nil, or_false] at h
  rcases h with rfl
  · exact ⟨RX32, TX32, 2, rfl, by decide, q2353, rfl, rfl, by decide +kernel⟩
theorem ff_X32_13 {ci : Nat} (h : ci ∈ [32]) : zFf "WhatIfSheet$Axis" 13 ci 1 (.array .double) := by
  simp only [List.mem_cons, List.not_mem_nil, or_false] at h
  rcases h with rfl
  · exact ⟨RX32, TX32, 2, rfl, by decide, q2356, rfl, rfl, by decide +kernel⟩
def wp_X32_init (l : Launch) (g : zG) (d : Nat) (h0 : Nat) (x1 : Int32) (r2 : Option Nat) (hp : zHp) (nx : Nat) (Post : zHp → Nat → Prop) : Prop :=
  (zpt g hp (some h0) [32] 0 (.int x1) fun hp_4 =>
  (zpt g hp_4 (some h0) [32] 1 (va_rf r2) fun hp_8 =>
  (Post hp_8 nx)))
set_option maxHeartbeats 40000000 in
theorem met_X32_init {l : Launch} {g : zG} {d : Nat} {h0 : Nat} {x1 : Int32} {r2 : Option Nat} {hp : zHp} {nx : Nat} {Post : zHp → Nat → Prop} (hw : wp_X32_init l g d h0 x1 r2 hp nx Post) : zMt l g yX32_init cX32_init 3 none (d + 1) 0 0 [.ref h0, .int x1, va_rf r2] hp nx (zQv g Post) := by
  refine z_start (by decide) (by cases r2 <;> exact Nat.le_of_ble_eq_true rfl) ?_
  intro p e s m below meth c hk hr hin hH hz ls hl
  have hx := hk.1.1
  have hb := hk.1.2.1
  have hown := hk.1.2.2.2.1
  have hts := hk.1.2.2.2.2
  have hS : va_S (zAd g) s.heap s.heap [] := va_S.rf
  have hl : lv_has ls 3 [(0, va_rf (some h0)), (1, .int x1), (2, va_rf r2)] := by cases r2 <;> exact hl
  unfold wp_X32_init at hw
  refine zr_aload_n (r := some h0) hx hb dX32_init_0 rfl (lv_at hl 0 rfl) ?_
  refine W.objInit (a := h0) hx hb hown (hts _ q2352) (hts _ q206) (hts _ q207) rfl (by rw [hk.1.2.2.1]; exact hl.1) rfl dX32_init_1 (Nat.le_add_left 1 d) (Nat.le_trans (Nat.le_of_ble_eq_true rfl : _ ≤ 64) (by show 64 ≤ 64 * (d + 1); omega)) ?_
  refine W.eq (g2 := F0 m 4 ls []) rfl ?_
  refine zr_aload_n (r := some h0) hx hb dX32_init_4 rfl (lv_at hl 0 rfl) ?_
  refine lv_iload_n hx hb dX32_init_5 rfl (lv_at hl 1 rfl) ?_
  obtain ⟨a_1, ci_2, fs_3, hp_4, er, he, hc, hA, hkl, eh, hw⟩ := zpt_e hw
  refine zw_putF hk hin hH hz hS er he hA hkl eh (ff_X32_7 hc) rfl rfl dX32_init_6 (fun H locs hH hz hS => ?_)
  refine zr_aload_n (r := some h0) hx hb dX32_init_9 rfl (lv_at hl 0 rfl) ?_
  refine zr_aload_n (r := r2) hx hb dX32_init_10 rfl (lv_at hl 2 rfl) ?_
  obtain ⟨a_5, ci_6, fs_7, hp_8, er, he, hc, hA, hkl, eh, hw⟩ := zpt_e hw
  refine zw_putF hk hin hH hz hS er he hA hkl eh (ff_X32_13 hc) (z_narA _ _) (z_fitA _ _) dX32_init_11 (fun H locs hH hz hS => ?_)
  exact zr_vret hk hr hH hz hS hw (Nat.le_of_ble_eq_true rfl) (Nat.le_of_ble_eq_true rfl) dX32_init_14
theorem ff_X33_3 {ci : Nat} (h : ci ∈ [33]) : zFf "WhatIfSheet$Bracket" 3 ci 10 (.object "WhatIfSheet") := by
  simp only [List.mem_cons, List.not_mem_nil, or_false] at h
  rcases h with rfl
  · exact ⟨RX33, TX33, 11, rfl, by decide, q2506, rfl, rfl, by decide +kernel⟩
theorem fp_X33_17 {ci : Nat} (h : ci ∈ [33]) : zFp "WhatIfSheet$Bracket" 17 ci 7 .double := by
  simp only [List.mem_cons, List.not_mem_nil, or_false] at h
  rcases h with rfl
  · exact ⟨RX33, TX33, 11, rfl, by decide, q2500, rfl, by decide +kernel⟩
theorem fp_X33_21 {ci : Nat} (h : ci ∈ [33]) : zFp "WhatIfSheet$Bracket" 21 ci 8 .double := by
  simp only [List.mem_cons, List.not_mem_nil, or_false] at h
  rcases h with rfl
  · exact ⟨RX33, TX33, 11, rfl, by decide, q2502, rfl, by decide +kernel⟩
theorem ff_X33_24 {ci : Nat} (h : ci ∈ [33]) : zFf "WhatIfSheet$Bracket" 24 ci 0 (.object "WhatIfSheet$Plain") := by
  simp only [List.mem_cons, List.not_mem_nil, or_false] at h
  rcases h with rfl
  · exact ⟨RX33, TX33, 11, rfl, by decide, q2493, rfl, rfl, by decide +kernel⟩
theorem ff_X33_28 {ci : Nat} (h : ci ∈ [33]) : zFf "WhatIfSheet$Bracket" 28 ci 1 .int := by
  simp only [List.mem_cons, List.not_mem_nil, or_false] at h
  rcases h with rfl
  · exact ⟨RX33, TX33, 11, rfl, by decide, q2494, rfl, rfl, by decide +kernel⟩
theorem fp_X33_32 {ci : Nat} (h : ci ∈ [33]) : zFp "WhatIfSheet$Bracket" 32 ci 3 .double := by
  simp only [List.mem_cons, List.not_mem_nil, or_false] at h
  rcases h with rfl
  · exact ⟨RX33, TX33, 11, rfl, by decide, q2496, rfl, by decide +kernel⟩
theorem fp_X33_35 {ci : Nat} (h : ci ∈ [33]) : zFp "WhatIfSheet$Bracket" 35 ci 4 .double := by
  simp only [List.mem_cons, List.not_mem_nil, or_false] at h
  rcases h with rfl
  · exact ⟨RX33, TX33, 11, rfl, by decide, q2497, rfl, by decide +kernel⟩
theorem ff_X33_38 {ci : Nat} (h : ci ∈ [33]) : zFf "WhatIfSheet$Bracket" 38 ci 2 .double := by
  simp only [List.mem_cons, List.not_mem_nil, or_false] at h
  rcases h with rfl
  · exact ⟨RX33, TX33, 11, rfl, by decide, q2495, rfl, rfl, by decide +kernel⟩
def wp_X33_init (l : Launch) (g : zG) (d : Nat) (h0 : Nat) (r1 : Option Nat) (r2 : Option Nat) (x3 : Int32) (x4 : UInt64) (x6 : UInt64) (x8 : UInt64) (hp : zHp) (nx : Nat) (Post : zHp → Nat → Prop) : Prop :=
  (zpt g hp (some h0) [33] 10 (va_rf r1) fun hp_4 =>
  (zpt g hp_4 (some h0) [33] 7 (.double (9221120237041090560 : UInt64)) fun hp_8 =>
  (zpt g hp_8 (some h0) [33] 8 (.double (9221120237041090560 : UInt64)) fun hp_12 =>
  (zpt g hp_12 (some h0) [33] 0 (va_rf r2) fun hp_16 =>
  (zpt g hp_16 (some h0) [33] 1 (.int x3) fun hp_20 =>
  (zpt g hp_20 (some h0) [33] 3 (.double x4) fun hp_24 =>
  (zpt g hp_24 (some h0) [33] 4 (.double x6) fun hp_28 =>
  (zpt g hp_28 (some h0) [33] 2 (.double x8) fun hp_32 =>
  (Post hp_32 nx)))))))))
set_option maxHeartbeats 40000000 in
theorem met_X33_init {l : Launch} {g : zG} {d : Nat} {h0 : Nat} {r1 : Option Nat} {r2 : Option Nat} {x3 : Int32} {x4 : UInt64} {x6 : UInt64} {x8 : UInt64} {hp : zHp} {nx : Nat} {Post : zHp → Nat → Prop} (hw : wp_X33_init l g d h0 r1 r2 x3 x4 x6 x8 hp nx Post) : zMt l g yX33_init cX33_init 10 none (d + 1) 0 0 [.ref h0, va_rf r1, va_rf r2, .int x3, .double x4, .double x6, .double x8] hp nx (zQv g Post) := by
  refine z_start (by decide) (by cases r1 <;> cases r2 <;> exact Nat.le_of_ble_eq_true rfl) ?_
  intro p e s m below meth c hk hr hin hH hz ls hl
  have hx := hk.1.1
  have hb := hk.1.2.1
  have hown := hk.1.2.2.2.1
  have hts := hk.1.2.2.2.2
  have hS : va_S (zAd g) s.heap s.heap [] := va_S.rf
  have hl : lv_has ls 10 [(0, va_rf (some h0)), (1, va_rf r1), (2, va_rf r2), (3, .int x3), (4, .double x4), (6, .double x6), (8, .double x8)] := by cases r1 <;> cases r2 <;> exact hl
  unfold wp_X33_init at hw
  refine zr_aload_n (r := some h0) hx hb dX33_init_0 rfl (lv_at hl 0 rfl) ?_
  refine zr_aload_n (r := r1) hx hb dX33_init_1 rfl (lv_at hl 1 rfl) ?_
  obtain ⟨a_1, ci_2, fs_3, hp_4, er, he, hc, hA, hkl, eh, hw⟩ := zpt_e hw
  refine zw_putF hk hin hH hz hS er he hA hkl eh (ff_X33_3 hc) (z_narR _ _) (z_fitR _ _) dX33_init_2 (fun H locs hH hz hS => ?_)
  refine zr_aload_n (r := some h0) hx hb dX33_init_5 rfl (lv_at hl 0 rfl) ?_
  refine W.objInit (a := h0) hx hb hown (hts _ q2491) (hts _ q206) (hts _ q207) rfl (by rw [hk.1.2.2.1]; exact hl.1) rfl dX33_init_6 (Nat.le_add_left 1 d) (Nat.le_trans (Nat.le_of_ble_eq_true rfl : _ ≤ 64) (by show 64 ≤ 64 * (d + 1); omega)) ?_
  refine W.eq (g2 := F0 m 9 ls []) rfl ?_
  refine zr_aload_n (r := some h0) hx hb dX33_init_9 rfl (lv_at hl 0 rfl) ?_
  refine lv_ldc2d hx hb hown (hts _ q2492) dX33_init_10 ?_
  obtain ⟨a_5, ci_6, fs_7, hp_8, er, he, hc, hA, hkl, eh, hw⟩ := zpt_e hw
  refine zw_put hk hH hz hS er he hA hkl eh (fp_X33_17 hc) rfl rfl dX33_init_13 (fun H locs hH hz hS => ?_)
  refine zr_aload_n (r := some h0) hx hb dX33_init_16 rfl (lv_at hl 0 rfl) ?_
  refine lv_ldc2d hx hb hown (hts _ q2492) dX33_init_17 ?_
  obtain ⟨a_9, ci_10, fs_11, hp_12, er, he, hc, hA, hkl, eh, hw⟩ := zpt_e hw
  refine zw_put hk hH hz hS er he hA hkl eh (fp_X33_21 hc) rfl rfl dX33_init_20 (fun H locs hH hz hS => ?_)
  refine zr_aload_n (r := some h0) hx hb dX33_init_23 rfl (lv_at hl 0 rfl) ?_
  refine zr_aload_n (r := r2) hx hb dX33_init_24 rfl (lv_at hl 2 rfl) ?_
  obtain ⟨a_13, ci_14, fs_15, hp_16, er, he, hc, hA, hkl, eh, hw⟩ := zpt_e hw
  refine zw_putF hk hin hH hz hS er he hA hkl eh (ff_X33_24 hc) (z_narR _ _) (z_fitR _ _) dX33_init_25 (fun H locs hH hz hS => ?_)
  refine zr_aload_n (r := some h0) hx hb dX33_init_28 rfl (lv_at hl 0 rfl) ?_
  refine lv_iload_n hx hb dX33_init_29 rfl (lv_at hl 3 rfl) ?_
  obtain ⟨a_17, ci_18, fs_19, hp_20, er, he, hc, hA, hkl, eh, hw⟩ := zpt_e hw
  refine zw_putF hk hin hH hz hS er he hA hkl eh (ff_X33_28 hc) rfl rfl dX33_init_30 (fun H locs hH hz hS => ?_)
  refine zr_aload_n (r := some h0) hx hb dX33_init_33 rfl (lv_at hl 0 rfl) ?_
  refine lv_dload hx hb dX33_init_34 (lv_at hl 4 rfl) ?_
  obtain ⟨a_21, ci_22, fs_23, hp_24, er, he, hc, hA, hkl, eh, hw⟩ := zpt_e hw
  refine zw_put hk hH hz hS er he hA hkl eh (fp_X33_32 hc) rfl rfl dX33_init_36 (fun H locs hH hz hS => ?_)
  refine zr_aload_n (r := some h0) hx hb dX33_init_39 rfl (lv_at hl 0 rfl) ?_
  refine lv_dload hx hb dX33_init_40 (lv_at hl 5 rfl) ?_
  obtain ⟨a_25, ci_26, fs_27, hp_28, er, he, hc, hA, hkl, eh, hw⟩ := zpt_e hw
  refine zw_put hk hH hz hS er he hA hkl eh (fp_X33_35 hc) rfl rfl dX33_init_42 (fun H locs hH hz hS => ?_)
  refine zr_aload_n (r := some h0) hx hb dX33_init_45 rfl (lv_at hl 0 rfl) ?_
  refine lv_dload hx hb dX33_init_46 (lv_at hl 6 rfl) ?_
  obtain ⟨a_29, ci_30, fs_31, hp_32, er, he, hc, hA, hkl, eh, hw⟩ := zpt_e hw
  refine zw_putF hk hin hH hz hS er he hA hkl eh (ff_X33_38 hc) rfl rfl dX33_init_48 (fun H locs hH hz hS => ?_)
  exact zr_vret hk hr hH hz hS hw (Nat.le_of_ble_eq_true rfl) (Nat.le_of_ble_eq_true rfl) dX33_init_51
theorem fk_X33_24 {ci : Nat} (h : ci ∈ [33]) : zFk "WhatIfSheet$Bracket" 24 ci 0 := by
  simp only [List.mem_cons, List.not_mem_nil, or_false] at h
  rcases h with rfl
  · exact ⟨RX33, TX33, 11, rfl, by decide, q2493⟩
theorem fk_X33_50 {ci : Nat} (h : ci ∈ [2, 6, 7, 8, 9, 10]) : zFk "WhatIfSheet$Bracket" 50 ci 2 := by
  simp only [List.mem_cons, List.not_mem_nil, or_false] at h
  rcases h with rfl | rfl | rfl | rfl | rfl | rfl
  · exact ⟨RX2, TX2, 3, rfl, by decide, q661⟩
  · exact ⟨RX6, TX6, 3, rfl, by decide, q661⟩
  · exact ⟨RX7, TX7, 3, rfl, by decide, q661⟩
  · exact ⟨RX8, TX8, 3, rfl, by decide, q661⟩
  · exact ⟨RX9, TX9, 3, rfl, by decide, q661⟩
  · exact ⟨RX10, TX10, 3, rfl, by decide, q661⟩
theorem fk_X33_32 {ci : Nat} (h : ci ∈ [33]) : zFk "WhatIfSheet$Bracket" 32 ci 3 := by
  simp only [List.mem_cons, List.not_mem_nil, or_false] at h
  rcases h with rfl
  · exact ⟨RX33, TX33, 11, rfl, by decide, q2496⟩
theorem fp_X33_60 {ci : Nat} (h : ci ∈ [33]) : zFp "WhatIfSheet$Bracket" 60 ci 5 .double := by
  simp only [List.mem_cons, List.not_mem_nil, or_false] at h
  rcases h with rfl
  · exact ⟨RX33, TX33, 11, rfl, by decide, q2498, rfl, by decide +kernel⟩
theorem fk_X33_3 {ci : Nat} (h : ci ∈ [33]) : zFk "WhatIfSheet$Bracket" 3 ci 10 := by
  simp only [List.mem_cons, List.not_mem_nil, or_false] at h
  rcases h with rfl
  · exact ⟨RX33, TX33, 11, rfl, by decide, q2506⟩
theorem fn_X33_63 {ci : Nat} (h : ci ∈ [0]) : zFkN "WhatIfSheet$Bracket" 63 ci 2 := by
  simp only [List.mem_cons, List.not_mem_nil, or_false] at h
  rcases h with rfl
  · exact ⟨RX0, TX0, 30, "WhatIfSheet", rfl, by decide, q1208⟩
theorem fk_X33_35 {ci : Nat} (h : ci ∈ [33]) : zFk "WhatIfSheet$Bracket" 35 ci 4 := by
  simp only [List.mem_cons, List.not_mem_nil, or_false] at h
  rcases h with rfl
  · exact ⟨RX33, TX33, 11, rfl, by decide, q2497⟩
theorem fp_X33_66 {ci : Nat} (h : ci ∈ [33]) : zFp "WhatIfSheet$Bracket" 66 ci 6 .double := by
  simp only [List.mem_cons, List.not_mem_nil, or_false] at h
  rcases h with rfl
  · exact ⟨RX33, TX33, 11, rfl, by decide, q2499, rfl, by decide +kernel⟩
theorem fk_X33_60 {ci : Nat} (h : ci ∈ [33]) : zFk "WhatIfSheet$Bracket" 60 ci 5 := by
  simp only [List.mem_cons, List.not_mem_nil, or_false] at h
  rcases h with rfl
  · exact ⟨RX33, TX33, 11, rfl, by decide, q2498⟩
theorem fk_X33_38 {ci : Nat} (h : ci ∈ [33]) : zFk "WhatIfSheet$Bracket" 38 ci 2 := by
  simp only [List.mem_cons, List.not_mem_nil, or_false] at h
  rcases h with rfl
  · exact ⟨RX33, TX33, 11, rfl, by decide, q2495⟩
theorem fp_X33_50 {ci : Nat} (h : ci ∈ [2, 6, 7, 8, 9, 10]) : zFp "WhatIfSheet$Bracket" 50 ci 2 .double := by
  simp only [List.mem_cons, List.not_mem_nil, or_false] at h
  rcases h with rfl | rfl | rfl | rfl | rfl | rfl
  · exact ⟨RX2, TX2, 3, rfl, by decide, q661, rfl, by decide +kernel⟩
  · exact ⟨RX6, TX6, 3, rfl, by decide, q661, rfl, by decide +kernel⟩
  · exact ⟨RX7, TX7, 3, rfl, by decide, q661, rfl, by decide +kernel⟩
  · exact ⟨RX8, TX8, 3, rfl, by decide, q661, rfl, by decide +kernel⟩
  · exact ⟨RX9, TX9, 3, rfl, by decide, q661, rfl, by decide +kernel⟩
  · exact ⟨RX10, TX10, 3, rfl, by decide, q661, rfl, by decide +kernel⟩
theorem fk_X33_66 {ci : Nat} (h : ci ∈ [33]) : zFk "WhatIfSheet$Bracket" 66 ci 6 := by
  simp only [List.mem_cons, List.not_mem_nil, or_false] at h
  rcases h with rfl
  · exact ⟨RX33, TX33, 11, rfl, by decide, q2499⟩
def wp_X33_seeks (l : Launch) (g : zG) (d : Nat) (h0 : Nat) (hp : zHp) (nx : Nat) (Post : zHp → Nat → Prop) : Prop :=
  (zgR hp (some h0) [33] 0 fun r_4 =>
  (zgD hp r_4 [2, 6, 7, 8, 9, 10] 2 fun x_8 =>
  (zgD hp (some h0) [33] 3 fun x_12 =>
  (zo hp (some h0) [33] fun a_149 ci_150 fs_151 => zMt l g yX33_of cX33_of 3 (some .double) d 0 0 (.ref a_149 :: [.double x_12]) hp nx (zQd g fun x_15 hp_13 nx_14 =>
  (zpt g hp_13 (some h0) [33] 5 (.double x_15) fun hp_19 =>
  (zgR hp_19 (some h0) [33] 10 fun r_23 =>
  (zgI hp_19 r_23 [0] 2 fun x_27 =>
  ((x_27 = 0 →
  (zgD hp_19 (some h0) [33] 4 fun x_31 =>
  (zo hp_19 (some h0) [33] fun a_138 ci_139 fs_140 => zMt l g yX33_of cX33_of 3 (some .double) d 0 0 (.ref a_138 :: [.double x_31]) hp_19 nx_14 (zQd g fun x_34 hp_32 nx_33 =>
  (zpt g hp_32 (some h0) [33] 6 (.double x_34) fun hp_38 =>
  (zgR hp_38 (some h0) [33] 10 fun r_42 =>
  (zgI hp_38 r_42 [0] 2 fun x_46 =>
  ((x_46 = 0 →
  (zgD hp_38 (some h0) [33] 5 fun x_50 =>
  (zgD hp_38 (some h0) [33] 2 fun x_54 =>
  (∃ P_165 : UInt64 → zHp → Nat → Prop, (∀ (x_55 : UInt64) (hp_56 : zHp) (nx_57 : Nat), P_165 x_55 hp_56 nx_57 →
  (zgR hp_56 (some h0) [33] 0 fun r_61 =>
  (zpt g hp_56 r_61 [2, 6, 7, 8, 9, 10] 2 (.double x_55) fun hp_65 =>
  (Post hp_65 nx_57)))) ∧
  (((Op.cmpValue (FP.dcmp x_50 x_54) .l) = 0 →
  (zgD hp_38 (some h0) [33] 3 fun x_120 =>
  (zgD hp_38 (some h0) [33] 5 fun x_124 =>
  (zo hp_38 (some h0) [33] fun a_127 ci_128 fs_129 => zMt l g yX33_finds cX33_finds 5 none d 0 0 (.ref a_127 :: [.double x_120, .double x_124]) hp_38 nx_33 (zQv g fun hp_125 nx_126 =>
  P_165 x_8 hp_125 nx_126))))) ∧
  (¬ (Op.cmpValue (FP.dcmp x_50 x_54) .l) = 0 →
  (zgD hp_38 (some h0) [33] 6 fun x_69 =>
  (zgD hp_38 (some h0) [33] 2 fun x_73 =>
  (((Op.cmpValue (FP.dcmp x_69 x_73) .l) = 0 →
  (zgD hp_38 (some h0) [33] 4 fun x_107 =>
  (zgD hp_38 (some h0) [33] 6 fun x_111 =>
  (zo hp_38 (some h0) [33] fun a_114 ci_115 fs_116 => zMt l g yX33_finds cX33_finds 5 none d 0 0 (.ref a_114 :: [.double x_107, .double x_111]) hp_38 nx_33 (zQv g fun hp_112 nx_113 =>
  P_165 x_8 hp_112 nx_113))))) ∧
  (¬ (Op.cmpValue (FP.dcmp x_69 x_73) .l) = 0 →
  (zgD hp_38 (some h0) [33] 5 fun x_77 =>
  (zgD hp_38 (some h0) [33] 2 fun x_81 =>
  (∃ P_141 : UInt64 → Int32 → zHp → Nat → Prop, (∀ (x_82 : UInt64) (x_83 : Int32) (hp_84 : zHp) (nx_85 : Nat), P_141 x_82 x_83 hp_84 nx_85 →
  (zgD hp_84 (some h0) [33] 6 fun x_89 =>
  (zgD hp_84 (some h0) [33] 2 fun x_93 =>
  (∃ P_158 : UInt64 → Int32 → Int32 → zHp → Nat → Prop, (∀ (x_94 : UInt64) (x_95 : Int32) (x_96 : Int32) (hp_97 : zHp) (nx_98 : Nat), P_158 x_94 x_95 x_96 hp_97 nx_98 →
  ((x_95 = x_96 →
  P_165 x_94 hp_97 nx_98) ∧
  (¬ x_95 = x_96 →
  (zo hp_97 (some h0) [33] fun a_101 ci_102 fs_103 => zMt l g yX33_closesIn cX33_closesIn 9 none d 0 0 (.ref a_101 :: []) hp_97 nx_98 (zQv g fun hp_99 nx_100 =>
  P_165 x_94 hp_99 nx_100))))) ∧
  ((0 ≤ (Op.cmpValue (FP.dcmp x_89 x_93) .g) →
  P_158 x_82 x_83 (0 : Int32) hp_84 nx_85) ∧
  (¬ 0 ≤ (Op.cmpValue (FP.dcmp x_89 x_93) .g) →
  P_158 x_82 x_83 (1 : Int32) hp_84 nx_85)))))) ∧
  ((0 ≤ (Op.cmpValue (FP.dcmp x_77 x_81) .g) →
  P_141 x_8 (0 : Int32) hp_38 nx_33) ∧
  (¬ 0 ≤ (Op.cmpValue (FP.dcmp x_77 x_81) .g) →
  P_141 x_8 (1 : Int32) hp_38 nx_33))))))))))))))) ∧
  (¬ x_46 = 0 →
  (zgR hp_38 (some h0) [33] 0 fun r_133 =>
  (zpt g hp_38 r_133 [2, 6, 7, 8, 9, 10] 2 (.double x_8) fun hp_137 =>
  (Post hp_137 nx_33)))))))))))) ∧
  (¬ x_27 = 0 →
  (zgR hp_19 (some h0) [33] 0 fun r_144 =>
  (zpt g hp_19 r_144 [2, 6, 7, 8, 9, 10] 2 (.double x_8) fun hp_148 =>
  (Post hp_148 nx_14)))))))))))))
set_option maxHeartbeats 40000000 in
theorem met_X33_seeks {l : Launch} {g : zG} {d : Nat} {h0 : Nat} {hp : zHp} {nx : Nat} {Post : zHp → Nat → Prop} (hw : wp_X33_seeks l g d h0 hp nx Post) : zMtW l g yX33_seeks cX33_seeks 4 none [(8, 30, 176, 0), (39, 61, 176, 0), (70, 165, 176, 0)] (d + 1) 0 0 [.ref h0] hp nx (zQv g Post) := by
  refine z_startW (by decide) (Nat.le_of_ble_eq_true rfl) ?_
  intro p e s m below meth c hk hr hin hH hz ls hl
  have hx := hk.1.1
  have hb := hk.1.2.1
  have hown := hk.1.2.2.2.1
  have hts := hk.1.2.2.2.2
  have hS : va_S (zAd g) s.heap s.heap [] := va_S.rf
  have hl : lv_has ls 4 [(0, va_rf (some h0))] := hl
  unfold wp_X33_seeks at hw
  refine zr_aload_n (r := some h0) hx hb dX33_seeks_0 rfl (lv_at hl 0 rfl) ?_
  obtain ⟨a_1, ci_2, fs_3, r_4, er, he, hc, hv, hw⟩ := zgR_e hw
  refine zw_get hk hH er he hv (fk_X33_24 hc) dX33_seeks_1 ?_
  obtain ⟨a_5, ci_6, fs_7, x_8, er, he, hc, hv, hw⟩ := zgD_e hw
  refine zw_get hk hH er he hv (fk_X33_50 hc) dX33_seeks_4 ?_
  refine lv_dstore_n (i := 1) (lv' := [(1, .double x_8), (0, va_rf (some h0))]) hx hb dX33_seeks_7 rfl hl (by decide) (by first | rfl | simp [List.filter_cons, z_cat, z_catI, z_catJ, z_catF, z_catD]) (fun ls hl => ?_)
  refine zr_aload_n (r := some h0) hx hb dX33_seeks_8 rfl (lv_at hl 1 rfl) ?_
  refine zr_aload_n (r := some h0) hx hb dX33_seeks_9 rfl (lv_at hl 1 rfl) ?_
  refine zr_aload_n (r := some h0) hx hb dX33_seeks_10 rfl (lv_at hl 1 rfl) ?_
  obtain ⟨a_9, ci_10, fs_11, x_12, er, he, hc, hv, hw⟩ := zgD_e hw
  refine zw_get hk hH er he hv (fk_X33_32 hc) dX33_seeks_11 ?_
  obtain ⟨a_149, ci_150, fs_151, er, he, hc, hw⟩ := zo_e hw
  obtain rfl := List.mem_singleton.mp hc
  refine zr_calld (zw_runV (As := [.double x_12]) hk hH hz hS hl.1 er hw (cwV 1 hts (lw_V q2534 q2536 qs59 q198 q2537) rfl rfl rfl (by decide +kernel) (z_room (Nat.le_of_ble_eq_true rfl))) he rfl rfl rfl (by simp only [List.map_cons, List.map_nil, z_cat]; exact Nat.le_of_ble_eq_true rfl) dX33_seeks_14 ⟨Nat.le_of_ble_eq_true rfl, Nat.le_of_ble_eq_true rfl⟩) hS (fun x_15 hp_13 nx_14 hw H locs hH hz hS => ?_)
  obtain ⟨a_16, ci_17, fs_18, hp_19, er, he, hc, hA, hkl, eh, hw⟩ := zpt_e hw
  refine zw_put hk hH hz hS er he hA hkl eh (fp_X33_60 hc) rfl rfl dX33_seeks_17 (fun H locs hH hz hS => ?_)
  refine zr_aload_n (r := some h0) hx hb dX33_seeks_20 rfl (lv_at hl 1 rfl) ?_
  obtain ⟨a_20, ci_21, fs_22, r_23, er, he, hc, hv, hw⟩ := zgR_e hw
  refine zw_get hk hH er he hv (fk_X33_3 hc) dX33_seeks_21 ?_
  obtain ⟨a_24, ci_25, fs_26, x_27, er, he, hc, hv, hw⟩ := zgI_e hw
  refine zw_getN hk hH er he hv (fn_X33_63 hc) dX33_seeks_24 ?_
  refine lv_if_eq (tgt := 39) hx hb dX33_seeks_27 (by decide) (fun hc => ?_) (fun hc => ?_)
  · have hw := hw.1 hc
    refine zr_aload_n (r := some h0) hx hb dX33_seeks_39 rfl (lv_at hl 1 rfl) ?_
    refine zr_aload_n (r := some h0) hx hb dX33_seeks_40 rfl (lv_at hl 1 rfl) ?_
    refine zr_aload_n (r := some h0) hx hb dX33_seeks_41 rfl (lv_at hl 1 rfl) ?_
    obtain ⟨a_28, ci_29, fs_30, x_31, er, he, hc, hv, hw⟩ := zgD_e hw
    refine zw_get hk hH er he hv (fk_X33_35 hc) dX33_seeks_42 ?_
    obtain ⟨a_138, ci_139, fs_140, er, he, hc, hw⟩ := zo_e hw
    obtain rfl := List.mem_singleton.mp hc
    refine zr_calld (zw_runV (As := [.double x_31]) hk hH hz hS hl.1 er hw (cwV 1 hts (lw_V q2534 q2536 qs59 q198 q2537) rfl rfl rfl (by decide +kernel) (z_room (Nat.le_of_ble_eq_true rfl))) he rfl rfl rfl (by simp only [List.map_cons, List.map_nil, z_cat]; exact Nat.le_of_ble_eq_true rfl) dX33_seeks_45 ⟨Nat.le_of_ble_eq_true rfl, Nat.le_of_ble_eq_true rfl⟩) hS (fun x_34 hp_32 nx_33 hw H locs hH hz hS => ?_)
    obtain ⟨a_35, ci_36, fs_37, hp_38, er, he, hc, hA, hkl, eh, hw⟩ := zpt_e hw
    refine zw_put hk hH hz hS er he hA hkl eh (fp_X33_66 hc) rfl rfl dX33_seeks_48 (fun H locs hH hz hS => ?_)
    refine zr_aload_n (r := some h0) hx hb dX33_seeks_51 rfl (lv_at hl 1 rfl) ?_
    obtain ⟨a_39, ci_40, fs_41, r_42, er, he, hc, hv, hw⟩ := zgR_e hw
    refine zw_get hk hH er he hv (fk_X33_3 hc) dX33_seeks_52 ?_
    obtain ⟨a_43, ci_44, fs_45, x_46, er, he, hc, hv, hw⟩ := zgI_e hw
    refine zw_getN hk hH er he hv (fn_X33_63 hc) dX33_seeks_55 ?_
    refine lv_if_eq (tgt := 70) hx hb dX33_seeks_58 (by decide) (fun hc => ?_) (fun hc => ?_)
    · have hw := hw.1 hc
      refine zr_aload_n (r := some h0) hx hb dX33_seeks_70 rfl (lv_at hl 1 rfl) ?_
      obtain ⟨a_47, ci_48, fs_49, x_50, er, he, hc, hv, hw⟩ := zgD_e hw
      refine zw_get hk hH er he hv (fk_X33_60 hc) dX33_seeks_71 ?_
      refine zr_aload_n (r := some h0) hx hb dX33_seeks_74 rfl (lv_at hl 1 rfl) ?_
      obtain ⟨a_51, ci_52, fs_53, x_54, er, he, hc, hv, hw⟩ := zgD_e hw
      refine zw_get hk hH er he hv (fk_X33_38 hc) dX33_seeks_75 ?_
      refine lv_dcmp hx hb dX33_seeks_78 ?_
      obtain ⟨P_165, hP_165, hw⟩ := hw
      have hJ_165 : ∀ (x_55 : UInt64) (hp_56 : zHp) (nx_57 : Nat) (H : Heap) (locs : List Loc) (ls : Array Slot), P_165 x_55 hp_56 nx_57 → lv_has ls 4 [(0, va_rf (some h0)), (1, .double x_55)] → zHd g hp_56 H → H.size = nx_57 → va_S (zAd g) s.heap H locs → W p l e (zrm (d + 1) 0 0) s m ([.ref h0] : List Value).toArray below meth c H locs 0 0 (MQ below (zQv g Post) ([.ref h0] : List Value).toArray s 0 0 (zAd g)) (F0 m 165 ls []) := by
        intro x_55 hp_56 nx_57 H locs ls hw hl hH hz hS
        have hw := hP_165 x_55 hp_56 nx_57 hw
        refine zr_aload_n (r := some h0) hx hb dX33_seeks_165 rfl (lv_at hl 0 rfl) ?_
        obtain ⟨a_58, ci_59, fs_60, r_61, er, he, hc, hv, hw⟩ := zgR_e hw
        refine zw_get hk hH er he hv (fk_X33_24 hc) dX33_seeks_166 ?_
        refine lv_dload_n hx hb dX33_seeks_169 rfl (lv_at hl 1 rfl) ?_
        obtain ⟨a_62, ci_63, fs_64, hp_65, er, he, hc, hA, hkl, eh, hw⟩ := zpt_e hw
        refine zw_put hk hH hz hS er he hA hkl eh (fp_X33_50 hc) rfl rfl dX33_seeks_170 (fun H locs hH hz hS => ?_)
        refine lv_goto (tgt := 187) hx hb dX33_seeks_173 (by decide) ?_
        exact zr_vret hk hr hH hz hS hw (Nat.le_of_ble_eq_true rfl) (Nat.le_of_ble_eq_true rfl) dX33_seeks_187
      refine lv_if_ne (tgt := 97) hx hb dX33_seeks_79 (by decide) (fun hc => ?_) (fun hc => ?_)
      · have hw := hw.2 hc
        refine zr_aload_n (r := some h0) hx hb dX33_seeks_97 rfl (lv_at hl 1 rfl) ?_
        obtain ⟨a_66, ci_67, fs_68, x_69, er, he, hc, hv, hw⟩ := zgD_e hw
        refine zw_get hk hH er he hv (fk_X33_66 hc) dX33_seeks_98 ?_
        refine zr_aload_n (r := some h0) hx hb dX33_seeks_101 rfl (lv_at hl 1 rfl) ?_
        obtain ⟨a_70, ci_71, fs_72, x_73, er, he, hc, hv, hw⟩ := zgD_e hw
        refine zw_get hk hH er he hv (fk_X33_38 hc) dX33_seeks_102 ?_
        refine lv_dcmp hx hb dX33_seeks_105 ?_
        refine lv_if_ne (tgt := 124) hx hb dX33_seeks_106 (by decide) (fun hc => ?_) (fun hc => ?_)
        · have hw := hw.2 hc
          refine zr_aload_n (r := some h0) hx hb dX33_seeks_124 rfl (lv_at hl 1 rfl) ?_
          obtain ⟨a_74, ci_75, fs_76, x_77, er, he, hc, hv, hw⟩ := zgD_e hw
          refine zw_get hk hH er he hv (fk_X33_60 hc) dX33_seeks_125 ?_
          refine zr_aload_n (r := some h0) hx hb dX33_seeks_128 rfl (lv_at hl 1 rfl) ?_
          obtain ⟨a_78, ci_79, fs_80, x_81, er, he, hc, hv, hw⟩ := zgD_e hw
          refine zw_get hk hH er he hv (fk_X33_38 hc) dX33_seeks_129 ?_
          refine lv_dcmp hx hb dX33_seeks_132 ?_
          obtain ⟨P_141, hP_141, hw⟩ := hw
          have hJ_141 : ∀ (x_82 : UInt64) (x_83 : Int32) (hp_84 : zHp) (nx_85 : Nat) (H : Heap) (locs : List Loc) (ls : Array Slot), P_141 x_82 x_83 hp_84 nx_85 → lv_has ls 4 [(0, va_rf (some h0)), (1, .double x_82)] → zHd g hp_84 H → H.size = nx_85 → va_S (zAd g) s.heap H locs → W p l e (zrm (d + 1) 0 0) s m ([.ref h0] : List Value).toArray below meth c H locs 0 0 (MQ below (zQv g Post) ([.ref h0] : List Value).toArray s 0 0 (zAd g)) (F0 m 141 ls [.int x_83]) := by
            intro x_82 x_83 hp_84 nx_85 H locs ls hw hl hH hz hS
            have hw := hP_141 x_82 x_83 hp_84 nx_85 hw
            refine zr_aload_n (r := some h0) hx hb dX33_seeks_141 rfl (lv_at hl 0 rfl) ?_
            obtain ⟨a_86, ci_87, fs_88, x_89, er, he, hc, hv, hw⟩ := zgD_e hw
            refine zw_get hk hH er he hv (fk_X33_66 hc) dX33_seeks_142 ?_
            refine zr_aload_n (r := some h0) hx hb dX33_seeks_145 rfl (lv_at hl 0 rfl) ?_
            obtain ⟨a_90, ci_91, fs_92, x_93, er, he, hc, hv, hw⟩ := zgD_e hw
            refine zw_get hk hH er he hv (fk_X33_38 hc) dX33_seeks_146 ?_
            refine lv_dcmp hx hb dX33_seeks_149 ?_
            obtain ⟨P_158, hP_158, hw⟩ := hw
            have hJ_158 : ∀ (x_94 : UInt64) (x_95 : Int32) (x_96 : Int32) (hp_97 : zHp) (nx_98 : Nat) (H : Heap) (locs : List Loc) (ls : Array Slot), P_158 x_94 x_95 x_96 hp_97 nx_98 → lv_has ls 4 [(0, va_rf (some h0)), (1, .double x_94)] → zHd g hp_97 H → H.size = nx_98 → va_S (zAd g) s.heap H locs → W p l e (zrm (d + 1) 0 0) s m ([.ref h0] : List Value).toArray below meth c H locs 0 0 (MQ below (zQv g Post) ([.ref h0] : List Value).toArray s 0 0 (zAd g)) (F0 m 158 ls [.int x_96, .int x_95]) := by
              intro x_94 x_95 x_96 hp_97 nx_98 H locs ls hw hl hH hz hS
              have hw := hP_158 x_94 x_95 x_96 hp_97 nx_98 hw
              refine lv_icmp_eq (tgt := 165) hx hb dX33_seeks_158 (by decide) (fun hc => ?_) (fun hc => ?_)
              · have hw := hw.1 hc
                exact hJ_165 x_94 hp_97 nx_98 _ _ _ hw hl hH hz hS
              · have hw := hw.2 hc
                refine zr_aload_n (r := some h0) hx hb dX33_seeks_161 rfl (lv_at hl 0 rfl) ?_
                obtain ⟨a_101, ci_102, fs_103, er, he, hc, hw⟩ := zo_e hw
                obtain rfl := List.mem_singleton.mp hc
                refine zr_callv (zw_runV (As := []) hk hH hz hS hl.1 er hw (cwV 0 hts (lw_V q2544 q2546 qs61 q198 q2547) rfl rfl rfl (by decide +kernel) (z_room (Nat.le_of_ble_eq_true rfl))) he rfl rfl rfl (Nat.le_of_ble_eq_true rfl) dX33_seeks_162 ⟨Nat.le_of_ble_eq_true rfl, Nat.le_of_ble_eq_true rfl⟩) hS (fun hp_99 nx_100 hw H locs hH hz hS => ?_)
                exact hJ_165 x_94 hp_99 nx_100 _ _ _ hw hl hH hz hS
            refine lv_if_ge (tgt := 157) hx hb dX33_seeks_150 (by decide) (fun hc => ?_) (fun hc => ?_)
            · have hw := hw.1 hc
              refine lv_iconst (v := (0 : Int32)) hx hb dX33_seeks_157 (by decide) ?_
              exact hJ_158 x_82 x_83 (0 : Int32) hp_84 nx_85 _ _ _ hw hl hH hz hS
            · have hw := hw.2 hc
              refine lv_iconst (v := (1 : Int32)) hx hb dX33_seeks_153 (by decide) ?_
              refine lv_goto (tgt := 158) hx hb dX33_seeks_154 (by decide) ?_
              exact hJ_158 x_82 x_83 (1 : Int32) hp_84 nx_85 _ _ _ hw hl hH hz hS
          refine lv_if_ge (tgt := 140) hx hb dX33_seeks_133 (by decide) (fun hc => ?_) (fun hc => ?_)
          · have hw := hw.1 hc
            refine lv_iconst (v := (0 : Int32)) hx hb dX33_seeks_140 (by decide) ?_
            exact hJ_141 x_8 (0 : Int32) hp_38 nx_33 _ _ _ hw (lv_sub hl [1, 0] rfl) hH hz hS
          · have hw := hw.2 hc
            refine lv_iconst (v := (1 : Int32)) hx hb dX33_seeks_136 (by decide) ?_
            refine lv_goto (tgt := 141) hx hb dX33_seeks_137 (by decide) ?_
            exact hJ_141 x_8 (1 : Int32) hp_38 nx_33 _ _ _ hw (lv_sub hl [1, 0] rfl) hH hz hS
        · have hw := hw.1 hc
          refine zr_aload_n (r := some h0) hx hb dX33_seeks_109 rfl (lv_at hl 1 rfl) ?_
          refine zr_aload_n (r := some h0) hx hb dX33_seeks_110 rfl (lv_at hl 1 rfl) ?_
          obtain ⟨a_104, ci_105, fs_106, x_107, er, he, hc, hv, hw⟩ := zgD_e hw
          refine zw_get hk hH er he hv (fk_X33_35 hc) dX33_seeks_111 ?_
          refine zr_aload_n (r := some h0) hx hb dX33_seeks_114 rfl (lv_at hl 1 rfl) ?_
          obtain ⟨a_108, ci_109, fs_110, x_111, er, he, hc, hv, hw⟩ := zgD_e hw
          refine zw_get hk hH er he hv (fk_X33_66 hc) dX33_seeks_115 ?_
          obtain ⟨a_114, ci_115, fs_116, er, he, hc, hw⟩ := zo_e hw
          obtain rfl := List.mem_singleton.mp hc
          refine zr_callv (zw_runV (As := [.double x_107, .double x_111]) hk hH hz hS hl.1 er hw (cwV 2 hts (lw_V q2540 q2542 qs60 q198 q2543) rfl rfl rfl (by decide +kernel) (z_room (Nat.le_of_ble_eq_true rfl))) he rfl rfl rfl (Nat.le_of_ble_eq_true rfl) dX33_seeks_118 ⟨Nat.le_of_ble_eq_true rfl, Nat.le_of_ble_eq_true rfl⟩) hS (fun hp_112 nx_113 hw H locs hH hz hS => ?_)
          refine lv_goto (tgt := 165) hx hb dX33_seeks_121 (by decide) ?_
          exact hJ_165 x_8 hp_112 nx_113 _ _ _ hw (lv_sub hl [1, 0] rfl) hH hz hS
      · have hw := hw.1 hc
        refine zr_aload_n (r := some h0) hx hb dX33_seeks_82 rfl (lv_at hl 1 rfl) ?_
        refine zr_aload_n (r := some h0) hx hb dX33_seeks_83 rfl (lv_at hl 1 rfl) ?_
        obtain ⟨a_117, ci_118, fs_119, x_120, er, he, hc, hv, hw⟩ := zgD_e hw
        refine zw_get hk hH er he hv (fk_X33_32 hc) dX33_seeks_84 ?_
        refine zr_aload_n (r := some h0) hx hb dX33_seeks_87 rfl (lv_at hl 1 rfl) ?_
        obtain ⟨a_121, ci_122, fs_123, x_124, er, he, hc, hv, hw⟩ := zgD_e hw
        refine zw_get hk hH er he hv (fk_X33_60 hc) dX33_seeks_88 ?_
        obtain ⟨a_127, ci_128, fs_129, er, he, hc, hw⟩ := zo_e hw
        obtain rfl := List.mem_singleton.mp hc
        refine zr_callv (zw_runV (As := [.double x_120, .double x_124]) hk hH hz hS hl.1 er hw (cwV 2 hts (lw_V q2540 q2542 qs60 q198 q2543) rfl rfl rfl (by decide +kernel) (z_room (Nat.le_of_ble_eq_true rfl))) he rfl rfl rfl (Nat.le_of_ble_eq_true rfl) dX33_seeks_91 ⟨Nat.le_of_ble_eq_true rfl, Nat.le_of_ble_eq_true rfl⟩) hS (fun hp_125 nx_126 hw H locs hH hz hS => ?_)
        refine lv_goto (tgt := 165) hx hb dX33_seeks_94 (by decide) ?_
        exact hJ_165 x_8 hp_125 nx_126 _ _ _ hw (lv_sub hl [1, 0] rfl) hH hz hS
    · have hw := hw.2 hc
      refine zr_aload_n (r := some h0) hx hb dX33_seeks_61 rfl (lv_at hl 1 rfl) ?_
      obtain ⟨a_130, ci_131, fs_132, r_133, er, he, hc, hv, hw⟩ := zgR_e hw
      refine zw_get hk hH er he hv (fk_X33_24 hc) dX33_seeks_62 ?_
      refine lv_dload_n hx hb dX33_seeks_65 rfl (lv_at hl 0 rfl) ?_
      obtain ⟨a_134, ci_135, fs_136, hp_137, er, he, hc, hA, hkl, eh, hw⟩ := zpt_e hw
      refine zw_put hk hH hz hS er he hA hkl eh (fp_X33_50 hc) rfl rfl dX33_seeks_66 (fun H locs hH hz hS => ?_)
      exact zr_vret hk hr hH hz hS hw (Nat.le_of_ble_eq_true rfl) (Nat.le_of_ble_eq_true rfl) dX33_seeks_69
  · have hw := hw.2 hc
    refine zr_aload_n (r := some h0) hx hb dX33_seeks_30 rfl (lv_at hl 1 rfl) ?_
    obtain ⟨a_141, ci_142, fs_143, r_144, er, he, hc, hv, hw⟩ := zgR_e hw
    refine zw_get hk hH er he hv (fk_X33_24 hc) dX33_seeks_31 ?_
    refine lv_dload_n hx hb dX33_seeks_34 rfl (lv_at hl 0 rfl) ?_
    obtain ⟨a_145, ci_146, fs_147, hp_148, er, he, hc, hA, hkl, eh, hw⟩ := zpt_e hw
    refine zw_put hk hH hz hS er he hA hkl eh (fp_X33_50 hc) rfl rfl dX33_seeks_35 (fun H locs hH hz hS => ?_)
    exact zr_vret hk hr hH hz hS hw (Nat.le_of_ble_eq_true rfl) (Nat.le_of_ble_eq_true rfl) dX33_seeks_38
theorem fk_X33_41 {ci : Nat} (h : ci ∈ [33]) : zFk "WhatIfSheet$Bracket" 41 ci 9 := by
  simp only [List.mem_cons, List.not_mem_nil, or_false] at h
  rcases h with rfl
  · exact ⟨RX33, TX33, 11, rfl, by decide, q2504⟩
theorem fp_X33_41 {ci : Nat} (h : ci ∈ [33]) : zFp "WhatIfSheet$Bracket" 41 ci 9 .int := by
  simp only [List.mem_cons, List.not_mem_nil, or_false] at h
  rcases h with rfl
  · exact ⟨RX33, TX33, 11, rfl, by decide, q2504, rfl, by decide +kernel⟩
theorem fk_X33_28 {ci : Nat} (h : ci ∈ [33]) : zFk "WhatIfSheet$Bracket" 28 ci 1 := by
  simp only [List.mem_cons, List.not_mem_nil, or_false] at h
  rcases h with rfl
  · exact ⟨RX33, TX33, 11, rfl, by decide, q2494⟩
def wp_X33_of (l : Launch) (g : zG) (d : Nat) (h0 : Nat) (x1 : UInt64) (hp : zHp) (nx : Nat) (Post : UInt64 → zHp → Nat → Prop) : Prop :=
  (zgI hp (some h0) [33] 9 fun x_4 =>
  (zpt g hp (some h0) [33] 9 (.int (x_4 + (1 : Int32))) fun hp_8 =>
  (zgR hp_8 (some h0) [33] 0 fun r_12 =>
  (zgR hp_8 (some h0) [33] 0 fun r_16 =>
  (zo hp_8 r_16 [2, 6, 7, 8, 9, 10] fun a_38 ci_39 fs_40 => ∃ PP_41 : UInt64 → zHp → Nat → Prop, (∀ (x_19 : UInt64) (hp_17 : zHp) (nx_18 : Nat), PP_41 x_19 hp_17 nx_18 →
  (zpt g hp_17 r_12 [2, 6, 7, 8, 9, 10] 2 (.double x_19) fun hp_23 =>
  (zgR hp_23 (some h0) [33] 10 fun r_27 =>
  (zgI hp_23 (some h0) [33] 1 fun x_31 =>
  (zo hp_23 r_27 [0] fun a_35 ci_36 fs_37 => zMt l g yX0_asked cX0_asked 2 (some .double) d 0 0 (.ref a_35 :: [.int x_31]) hp_23 nx_18 (zQd g fun x_34 hp_32 nx_33 =>
  (Post x_34 hp_32 nx_33))))))) ∧ zMt l g yX2_kept cX2_kept 5 (some .double) d 0 0 (.ref a_38 :: [.double x1]) hp_8 nx (zQd g PP_41))))))
set_option maxHeartbeats 40000000 in
theorem met_X33_of {l : Launch} {g : zG} {d : Nat} {h0 : Nat} {x1 : UInt64} {hp : zHp} {nx : Nat} {Post : UInt64 → zHp → Nat → Prop} (hw : wp_X33_of l g d h0 x1 hp nx Post) : zMt l g yX33_of cX33_of 3 (some .double) (d + 1) 0 0 [.ref h0, .double x1] hp nx (zQd g Post) := by
  refine z_start (by decide) (Nat.le_of_ble_eq_true rfl) ?_
  intro p e s m below meth c hk hr hin hH hz ls hl
  have hx := hk.1.1
  have hb := hk.1.2.1
  have hown := hk.1.2.2.2.1
  have hts := hk.1.2.2.2.2
  have hS : va_S (zAd g) s.heap s.heap [] := va_S.rf
  have hl : lv_has ls 3 [(0, va_rf (some h0)), (1, .double x1)] := hl
  unfold wp_X33_of at hw
  refine zr_aload_n (r := some h0) hx hb dX33_of_0 rfl (lv_at hl 0 rfl) ?_
  refine lv_dup hx hb dX33_of_1 (z_cat _) ?_
  obtain ⟨a_1, ci_2, fs_3, x_4, er, he, hc, hv, hw⟩ := zgI_e hw
  refine zw_get hk hH er he hv (fk_X33_41 hc) dX33_of_2 ?_
  refine lv_iconst (v := (1 : Int32)) hx hb dX33_of_5 (by decide) ?_
  refine lv_iadd hx hb dX33_of_6 ?_
  obtain ⟨a_5, ci_6, fs_7, hp_8, er, he, hc, hA, hkl, eh, hw⟩ := zpt_e hw
  refine zw_put hk hH hz hS er he hA hkl eh (fp_X33_41 hc) rfl rfl dX33_of_7 (fun H locs hH hz hS => ?_)
  refine zr_aload_n (r := some h0) hx hb dX33_of_10 rfl (lv_at hl 0 rfl) ?_
  obtain ⟨a_9, ci_10, fs_11, r_12, er, he, hc, hv, hw⟩ := zgR_e hw
  refine zw_get hk hH er he hv (fk_X33_24 hc) dX33_of_11 ?_
  refine zr_aload_n (r := some h0) hx hb dX33_of_14 rfl (lv_at hl 0 rfl) ?_
  obtain ⟨a_13, ci_14, fs_15, r_16, er, he, hc, hv, hw⟩ := zgR_e hw
  refine zw_get hk hH er he hv (fk_X33_24 hc) dX33_of_15 ?_
  refine lv_dload_n hx hb dX33_of_18 rfl (lv_at hl 1 rfl) ?_
  obtain ⟨a_38, ci_39, fs_40, er, he, hc, PP_41, hPP, hw⟩ := zo_e hw
  have hC : ∀ (x_19 : UInt64) (hp_17 : zHp) (nx_18 : Nat), PP_41 x_19 hp_17 nx_18 → ∀ (H : Heap) (locs : List Loc), zHd g hp_17 H → H.size = nx_18 → va_S (zAd g) s.heap H locs → W p l e (zrm (d + 1) 0 0) s m ([.ref h0, .double x1] : List Value).toArray below meth c H locs (0 + 0) (0 + 0) (MQ below (zQd g Post) ([.ref h0, .double x1] : List Value).toArray s 0 0 (zAd g)) (F0 m 22 ls [.double x_19, va_rf r_12]) := by
    intro x_19 hp_17 nx_18 hw H locs hH hz hS
    have hw := hPP x_19 hp_17 nx_18 hw
    obtain ⟨a_20, ci_21, fs_22, hp_23, er, he, hc, hA, hkl, eh, hw⟩ := zpt_e hw
    refine zw_put hk hH hz hS er he hA hkl eh (fp_X33_50 hc) rfl rfl dX33_of_22 (fun H locs hH hz hS => ?_)
    refine zr_aload_n (r := some h0) hx hb dX33_of_25 rfl (lv_at hl 0 rfl) ?_
    obtain ⟨a_24, ci_25, fs_26, r_27, er, he, hc, hv, hw⟩ := zgR_e hw
    refine zw_get hk hH er he hv (fk_X33_3 hc) dX33_of_26 ?_
    refine zr_aload_n (r := some h0) hx hb dX33_of_29 rfl (lv_at hl 0 rfl) ?_
    obtain ⟨a_28, ci_29, fs_30, x_31, er, he, hc, hv, hw⟩ := zgI_e hw
    refine zw_get hk hH er he hv (fk_X33_28 hc) dX33_of_30 ?_
    obtain ⟨a_35, ci_36, fs_37, er, he, hc, hw⟩ := zo_e hw
    obtain rfl := List.mem_singleton.mp hc
    refine zr_calld (zw_runVN (As := [.int x_31]) hk hH hz hS hl.1 er hw ⟨va_cnB 1 hts (lw_meth q2130) rfl rfl rfl (hk.2.2.1.1 _ q2539 rfl) (hts _ q131) (by decide +kernel) (z_room (Nat.le_of_ble_eq_true rfl)), hts _ q2129, hts _ qs40⟩ he rfl rfl rfl (Nat.le_of_ble_eq_true rfl) dX33_of_33 ⟨Nat.le_of_ble_eq_true rfl, Nat.le_of_ble_eq_true rfl⟩) hS (fun x_34 hp_32 nx_33 hw H locs hH hz hS => ?_)
    exact zr_dret hk hr hH hz hS hw (Nat.le_of_ble_eq_true rfl) (Nat.le_of_ble_eq_true rfl) dX33_of_36
  simp only [List.mem_cons, List.not_mem_nil, or_false] at hc
  rcases hc with rfl | rfl | rfl | rfl | rfl | rfl
  · exact zr_calld (zw_runV (As := [.double x1]) hk hH hz hS hl.1 er (hw) (cwV 1 hts (lw_V q2538 q1981 q1982 q152 q1989) rfl rfl rfl (by decide +kernel) (z_room (Nat.le_of_ble_eq_true rfl))) he rfl rfl rfl (by simp only [List.map_cons, List.map_nil, z_cat]; exact Nat.le_of_ble_eq_true rfl) dX33_of_19 ⟨Nat.le_of_ble_eq_true rfl, Nat.le_of_ble_eq_true rfl⟩) hS hC
  · exact zr_calld (zw_runU (As := [.double x1]) hk hH hz hS hl.1 er (hw) (va_cwU 1 hts (z_U q2538 q1983 q1988 q1981 q152 q1989) rfl rfl rfl rfl (by decide +kernel) (z_room (Nat.le_of_ble_eq_true rfl))) he rfl rfl rfl (by simp only [List.map_cons, List.map_nil, z_cat]; exact Nat.le_of_ble_eq_true rfl) dX33_of_19 ⟨Nat.le_of_ble_eq_true rfl, Nat.le_of_ble_eq_true rfl⟩) hS hC
  · exact zr_calld (zw_runU (As := [.double x1]) hk hH hz hS hl.1 er (hw) (va_cwU 1 hts (z_U q2538 q1983 q1985 q1981 q152 q1989) rfl rfl rfl rfl (by decide +kernel) (z_room (Nat.le_of_ble_eq_true rfl))) he rfl rfl rfl (by simp only [List.map_cons, List.map_nil, z_cat]; exact Nat.le_of_ble_eq_true rfl) dX33_of_19 ⟨Nat.le_of_ble_eq_true rfl, Nat.le_of_ble_eq_true rfl⟩) hS hC
  · exact zr_calld (zw_runU (As := [.double x1]) hk hH hz hS hl.1 er (hw) (va_cwU 1 hts (z_U q2538 q1983 q1986 q1981 q152 q1989) rfl rfl rfl rfl (by decide +kernel) (z_room (Nat.le_of_ble_eq_true rfl))) he rfl rfl rfl (by simp only [List.map_cons, List.map_nil, z_cat]; exact Nat.le_of_ble_eq_true rfl) dX33_of_19 ⟨Nat.le_of_ble_eq_true rfl, Nat.le_of_ble_eq_true rfl⟩) hS hC
  · exact zr_calld (zw_runU (As := [.double x1]) hk hH hz hS hl.1 er (hw) (va_cwU 1 hts (z_U q2538 q1983 q1987 q1981 q152 q1989) rfl rfl rfl rfl (by decide +kernel) (z_room (Nat.le_of_ble_eq_true rfl))) he rfl rfl rfl (by simp only [List.map_cons, List.map_nil, z_cat]; exact Nat.le_of_ble_eq_true rfl) dX33_of_19 ⟨Nat.le_of_ble_eq_true rfl, Nat.le_of_ble_eq_true rfl⟩) hS hC
  · exact zr_calld (zw_runU (As := [.double x1]) hk hH hz hS hl.1 er (hw) (va_cwU 1 hts (z_U q2538 q1983 q1984 q1981 q152 q1989) rfl rfl rfl rfl (by decide +kernel) (z_room (Nat.le_of_ble_eq_true rfl))) he rfl rfl rfl (by simp only [List.map_cons, List.map_nil, z_cat]; exact Nat.le_of_ble_eq_true rfl) dX33_of_19 ⟨Nat.le_of_ble_eq_true rfl, Nat.le_of_ble_eq_true rfl⟩) hS hC
def wp_X33_finds (l : Launch) (g : zG) (d : Nat) (h0 : Nat) (x1 : UInt64) (x3 : UInt64) (hp : zHp) (nx : Nat) (Post : zHp → Nat → Prop) : Prop :=
  (zpt g hp (some h0) [33] 7 (.double x1) fun hp_4 =>
  (zpt g hp_4 (some h0) [33] 8 (.double x3) fun hp_8 =>
  (Post hp_8 nx)))
set_option maxHeartbeats 40000000 in
theorem met_X33_finds {l : Launch} {g : zG} {d : Nat} {h0 : Nat} {x1 : UInt64} {x3 : UInt64} {hp : zHp} {nx : Nat} {Post : zHp → Nat → Prop} (hw : wp_X33_finds l g d h0 x1 x3 hp nx Post) : zMt l g yX33_finds cX33_finds 5 none (d + 1) 0 0 [.ref h0, .double x1, .double x3] hp nx (zQv g Post) := by
  refine z_start (by decide) (Nat.le_of_ble_eq_true rfl) ?_
  intro p e s m below meth c hk hr hin hH hz ls hl
  have hx := hk.1.1
  have hb := hk.1.2.1
  have hown := hk.1.2.2.2.1
  have hts := hk.1.2.2.2.2
  have hS : va_S (zAd g) s.heap s.heap [] := va_S.rf
  have hl : lv_has ls 5 [(0, va_rf (some h0)), (1, .double x1), (3, .double x3)] := hl
  unfold wp_X33_finds at hw
  refine zr_aload_n (r := some h0) hx hb dX33_finds_0 rfl (lv_at hl 0 rfl) ?_
  refine lv_dload_n hx hb dX33_finds_1 rfl (lv_at hl 1 rfl) ?_
  obtain ⟨a_1, ci_2, fs_3, hp_4, er, he, hc, hA, hkl, eh, hw⟩ := zpt_e hw
  refine zw_put hk hH hz hS er he hA hkl eh (fp_X33_17 hc) rfl rfl dX33_finds_2 (fun H locs hH hz hS => ?_)
  refine zr_aload_n (r := some h0) hx hb dX33_finds_5 rfl (lv_at hl 0 rfl) ?_
  refine lv_dload_n hx hb dX33_finds_6 rfl (lv_at hl 2 rfl) ?_
  obtain ⟨a_5, ci_6, fs_7, hp_8, er, he, hc, hA, hkl, eh, hw⟩ := zpt_e hw
  refine zw_put hk hH hz hS er he hA hkl eh (fp_X33_21 hc) rfl rfl dX33_finds_7 (fun H locs hH hz hS => ?_)
  exact zr_vret hk hr hH hz hS hw (Nat.le_of_ble_eq_true rfl) (Nat.le_of_ble_eq_true rfl) dX33_finds_10
def wp_X33_closesIn (l : Launch) (g : zG) (d : Nat) (h0 : Nat) (hp : zHp) (nx : Nat) (Post : zHp → Nat → Prop) : Prop :=
  (∃ I_4 : Nat → Int32 → Int32 → zHp → Nat → Prop, (∃ n_237, I_4 n_237 (0 : Int32) (0 : Int32) hp nx) ∧ ∀ (n_5 : Nat) (x_1 : Int32) (x_2 : Int32) (hp_3 : zHp) (nx_4 : Nat), I_4 n_5 x_1 x_2 hp_3 nx_4 →
  (∃ P_246 : Int32 → Int32 → zHp → Nat → Prop, (∀ (x_6 : Int32) (x_7 : Int32) (hp_8 : zHp) (nx_9 : Nat), P_246 x_6 x_7 hp_8 nx_9 →
  (zgD hp_8 (some h0) [33] 6 fun x_13 =>
  (zo hp_8 (some h0) [33] fun a_57 ci_58 fs_59 => zMt l g yX33_apart cX33_apart 3 (some .double) d 0 0 (.ref a_57 :: [.double x_13]) hp_8 nx_9 (zQd g fun x_16 hp_14 nx_15 =>
  (zgD hp_14 (some h0) [33] 5 fun x_20 =>
  (zo hp_14 (some h0) [33] fun a_54 ci_55 fs_56 => zMt l g yX33_apart cX33_apart 3 (some .double) d 0 0 (.ref a_54 :: [.double x_20]) hp_14 nx_15 (zQd g fun x_23 hp_21 nx_22 =>
  (∃ P_293 : Int32 → Int32 → zHp → Nat → Prop, (∀ (x_24 : Int32) (x_25 : Int32) (hp_26 : zHp) (nx_27 : Nat), P_293 x_24 x_25 hp_26 nx_27 →
  (Post hp_26 nx_27)) ∧
  ((0 ≤ (Op.cmpValue (FP.dcmp x_16 x_23) .g) →
  (zgD hp_21 (some h0) [33] 3 fun x_31 =>
  (zgD hp_21 (some h0) [33] 5 fun x_35 =>
  (zo hp_21 (some h0) [33] fun a_38 ci_39 fs_40 => zMt l g yX33_finds cX33_finds 5 none d 0 0 (.ref a_38 :: [.double x_31, .double x_35]) hp_21 nx_22 (zQv g fun hp_36 nx_37 =>
  P_293 x_6 x_7 hp_36 nx_37))))) ∧
  (¬ 0 ≤ (Op.cmpValue (FP.dcmp x_16 x_23) .g) →
  (zgD hp_21 (some h0) [33] 4 fun x_44 =>
  (zgD hp_21 (some h0) [33] 6 fun x_48 =>
  (zo hp_21 (some h0) [33] fun a_51 ci_52 fs_53 => zMt l g yX33_finds cX33_finds 5 none d 0 0 (.ref a_51 :: [.double x_44, .double x_48]) hp_21 nx_22 (zQv g fun hp_49 nx_50 =>
  P_293 x_6 x_7 hp_49 nx_50)))))))))))))) ∧
  (((40 : Int32) ≤ x_2 →
  P_246 x_1 x_2 hp_3 nx_4) ∧
  (¬ (40 : Int32) ≤ x_2 →
  (∃ P_69 : Int32 → Int32 → UInt64 → zHp → Nat → Prop, (∀ (x_60 : Int32) (x_61 : Int32) (x_62 : UInt64) (hp_63 : zHp) (nx_64 : Nat), P_69 x_60 x_61 x_62 hp_63 nx_64 →
  (zo hp_63 (some h0) [33] fun a_194 ci_195 fs_196 => zMt l g yX33_isInside cX33_isInside 3 (some .boolean) d 0 0 (.ref a_194 :: [.double x_62]) hp_63 nx_64 (zQi g fun x_67 hp_65 nx_66 =>
  (∃ P_97 : Int32 → Int32 → UInt64 → zHp → Nat → Prop, (∀ (x_68 : Int32) (x_69 : Int32) (x_70 : UInt64) (hp_71 : zHp) (nx_72 : Nat), P_97 x_68 x_69 x_70 hp_71 nx_72 →
  (zo hp_71 (some h0) [33] fun a_178 ci_179 fs_180 => zMt l g yX33_isInside cX33_isInside 3 (some .boolean) d 0 0 (.ref a_178 :: [.double x_70]) hp_71 nx_72 (zQi g fun x_75 hp_73 nx_74 =>
  ((x_75 = 0 →
  P_246 x_68 x_69 hp_73 nx_74) ∧
  (¬ x_75 = 0 →
  (zo hp_73 (some h0) [33] fun a_175 ci_176 fs_177 => zMt l g yX33_of cX33_of 3 (some .double) d 0 0 (.ref a_175 :: [.double x_70]) hp_73 nx_74 (zQd g fun x_78 hp_76 nx_77 =>
  (zgR hp_76 (some h0) [33] 10 fun r_82 =>
  (zgI hp_76 r_82 [0] 2 fun x_86 =>
  ((x_86 = 0 →
  (zgD hp_76 (some h0) [33] 2 fun x_90 =>
  (((Op.cmpValue (FP.dcmp x_78 x_90) .l) = 0 →
  (zo hp_76 (some h0) [33] fun a_172 ci_173 fs_174 => zMt l g yX33_finds cX33_finds 5 none d 0 0 (.ref a_172 :: [.double x_70, .double x_78]) hp_76 nx_77 (zQv g fun hp_170 nx_171 =>
  (Post hp_170 nx_171)))) ∧
  (¬ (Op.cmpValue (FP.dcmp x_78 x_90) .l) = 0 →
  (zgD hp_76 (some h0) [33] 4 fun x_94 =>
  (zgD hp_76 (some h0) [33] 3 fun x_98 =>
  (vf_n64 (FP.dsub x_94 x_98) ∧ (∀ x_99 : UInt64, x_99 = FP.dsub x_94 x_98 →
  (zgD hp_76 (some h0) [33] 2 fun x_103 =>
  (∃ P_170 : Int32 → Int32 → UInt64 → UInt64 → UInt64 → Int32 → zHp → Nat → Prop, (∀ (x_104 : Int32) (x_105 : Int32) (x_106 : UInt64) (x_107 : UInt64) (x_108 : UInt64) (x_109 : Int32) (hp_110 : zHp) (nx_111 : Nat), P_170 x_104 x_105 x_106 x_107 x_108 x_109 hp_110 nx_111 →
  (zgD hp_110 (some h0) [33] 5 fun x_115 =>
  (zgD hp_110 (some h0) [33] 2 fun x_119 =>
  (∃ P_187 : Int32 → Int32 → UInt64 → UInt64 → UInt64 → Int32 → Int32 → zHp → Nat → Prop, (∀ (x_120 : Int32) (x_121 : Int32) (x_122 : UInt64) (x_123 : UInt64) (x_124 : UInt64) (x_125 : Int32) (x_126 : Int32) (hp_127 : zHp) (nx_128 : Nat), P_187 x_120 x_121 x_122 x_123 x_124 x_125 x_126 hp_127 nx_128 →
  (∃ P_215 : Int32 → Int32 → UInt64 → UInt64 → UInt64 → zHp → Nat → Prop, (∀ (x_129 : Int32) (x_130 : Int32) (x_131 : UInt64) (x_132 : UInt64) (x_133 : UInt64) (hp_134 : zHp) (nx_135 : Nat), P_215 x_129 x_130 x_131 x_132 x_133 hp_134 nx_135 →
  (zgD hp_134 (some h0) [33] 4 fun x_139 =>
  (zgD hp_134 (some h0) [33] 3 fun x_143 =>
  (vf_n64 (FP.dsub x_139 x_143) ∧ (vf_n64 (FP.ddiv x_133 (4611686018427387904 : UInt64)) ∧ (∃ P_239 : Int32 → Int32 → UInt64 → UInt64 → UInt64 → Int32 → zHp → Nat → Prop, (∀ (x_144 : Int32) (x_145 : Int32) (x_146 : UInt64) (x_147 : UInt64) (x_148 : UInt64) (x_149 : Int32) (hp_150 : zHp) (nx_151 : Nat), P_239 x_144 x_145 x_146 x_147 x_148 x_149 hp_150 nx_151 →
  (∀ x_152 : Int32, x_152 = x_145 + (1 : Int32) →
  (∃ k_153, k_153 < n_5 ∧ I_4 k_153 x_149 x_152 hp_150 nx_151))) ∧
  ((0 < (Op.cmpValue (FP.dcmp (FP.dsub x_139 x_143) (FP.ddiv x_133 (4611686018427387904 : UInt64))) .g) →
  P_239 x_129 x_130 x_131 x_132 x_133 (0 : Int32) hp_134 nx_135) ∧
  (¬ 0 < (Op.cmpValue (FP.dcmp (FP.dsub x_139 x_143) (FP.ddiv x_133 (4611686018427387904 : UInt64))) .g) →
  P_239 x_129 x_130 x_131 x_132 x_133 (1 : Int32) hp_134 nx_135)))))))) ∧
  ((x_125 = x_126 →
  (zpt g hp_127 (some h0) [33] 3 (.double x_122) fun hp_165 =>
  (zpt g hp_165 (some h0) [33] 5 (.double x_123) fun hp_169 =>
  P_215 x_120 x_121 x_122 x_123 x_124 hp_169 nx_128))) ∧
  (¬ x_125 = x_126 →
  (zpt g hp_127 (some h0) [33] 4 (.double x_122) fun hp_157 =>
  (zpt g hp_157 (some h0) [33] 6 (.double x_123) fun hp_161 =>
  P_215 x_120 x_121 x_122 x_123 x_124 hp_161 nx_128)))))) ∧
  ((0 ≤ (Op.cmpValue (FP.dcmp x_115 x_119) .g) →
  P_187 x_104 x_105 x_106 x_107 x_108 x_109 (0 : Int32) hp_110 nx_111) ∧
  (¬ 0 ≤ (Op.cmpValue (FP.dcmp x_115 x_119) .g) →
  P_187 x_104 x_105 x_106 x_107 x_108 x_109 (1 : Int32) hp_110 nx_111)))))) ∧
  ((0 ≤ (Op.cmpValue (FP.dcmp x_78 x_103) .g) →
  P_170 x_68 x_69 x_70 x_78 x_99 (0 : Int32) hp_76 nx_77) ∧
  (¬ 0 ≤ (Op.cmpValue (FP.dcmp x_78 x_103) .g) →
  P_170 x_68 x_69 x_70 x_78 x_99 (1 : Int32) hp_76 nx_77)))))))))))) ∧
  (¬ x_86 = 0 →
  (Post hp_76 nx_77)))))))))))) ∧
  ((x_67 = 0 →
  (zgD hp_65 (some h0) [33] 3 fun x_184 =>
  (zgD hp_65 (some h0) [33] 4 fun x_188 =>
  (zgD hp_65 (some h0) [33] 3 fun x_192 =>
  (vf_n64 (FP.dsub x_188 x_192) ∧ (vf_n64 (FP.ddiv (FP.dsub x_188 x_192) (4611686018427387904 : UInt64)) ∧ (vf_n64 (FP.dadd x_184 (FP.ddiv (FP.dsub x_188 x_192) (4611686018427387904 : UInt64))) ∧ (∀ x_193 : UInt64, x_193 = FP.dadd x_184 (FP.ddiv (FP.dsub x_188 x_192) (4611686018427387904 : UInt64)) →
  P_97 x_60 x_61 x_193 hp_65 nx_66)))))))) ∧
  (¬ x_67 = 0 →
  P_97 x_60 x_61 x_62 hp_65 nx_66)))))) ∧
  ((x_1 = 0 →
  (zgD hp_3 (some h0) [33] 3 fun x_200 =>
  (zgD hp_3 (some h0) [33] 4 fun x_204 =>
  (zgD hp_3 (some h0) [33] 3 fun x_208 =>
  (vf_n64 (FP.dsub x_204 x_208) ∧ (vf_n64 (FP.ddiv (FP.dsub x_204 x_208) (4611686018427387904 : UInt64)) ∧ (vf_n64 (FP.dadd x_200 (FP.ddiv (FP.dsub x_204 x_208) (4611686018427387904 : UInt64))) ∧ P_69 x_1 x_2 (FP.dadd x_200 (FP.ddiv (FP.dsub x_204 x_208) (4611686018427387904 : UInt64))) hp_3 nx_4))))))) ∧
  (¬ x_1 = 0 →
  (zgD hp_3 (some h0) [33] 3 fun x_212 =>
  (zgD hp_3 (some h0) [33] 2 fun x_216 =>
  (zgD hp_3 (some h0) [33] 5 fun x_220 =>
  (vf_n64 (FP.dsub x_216 x_220) ∧ (zgD hp_3 (some h0) [33] 4 fun x_224 =>
  (zgD hp_3 (some h0) [33] 3 fun x_228 =>
  (vf_n64 (FP.dsub x_224 x_228) ∧ (vf_n64 (FP.dmul (FP.dsub x_216 x_220) (FP.dsub x_224 x_228)) ∧ (zgD hp_3 (some h0) [33] 6 fun x_232 =>
  (zgD hp_3 (some h0) [33] 5 fun x_236 =>
  (vf_n64 (FP.dsub x_232 x_236) ∧ (vf_n64 (FP.ddiv (FP.dmul (FP.dsub x_216 x_220) (FP.dsub x_224 x_228)) (FP.dsub x_232 x_236)) ∧ (vf_n64 (FP.dadd x_212 (FP.ddiv (FP.dmul (FP.dsub x_216 x_220) (FP.dsub x_224 x_228)) (FP.dsub x_232 x_236))) ∧ P_69 x_1 x_2 (FP.dadd x_212 (FP.ddiv (FP.dmul (FP.dsub x_216 x_220) (FP.dsub x_224 x_228)) (FP.dsub x_232 x_236))) hp_3 nx_4))))))))))))))))))))
set_option maxHeartbeats 40000000 in
theorem met_X33_closesIn {l : Launch} {g : zG} {d : Nat} {h0 : Nat} {hp : zHp} {nx : Nat} {Post : zHp → Nat → Prop} (hw : wp_X33_closesIn l g d h0 hp nx Post) : zMt l g yX33_closesIn cX33_closesIn 9 none (d + 1) 0 0 [.ref h0] hp nx (zQv g Post) := by
  refine z_start (by decide) (Nat.le_of_ble_eq_true rfl) ?_
  intro p e s m below meth c hk hr hin hH hz ls hl
  have hx := hk.1.1
  have hb := hk.1.2.1
  have hown := hk.1.2.2.2.1
  have hts := hk.1.2.2.2.2
  have hS : va_S (zAd g) s.heap s.heap [] := va_S.rf
  have hl : lv_has ls 9 [(0, va_rf (some h0))] := hl
  unfold wp_X33_closesIn at hw
  refine lv_iconst (v := (0 : Int32)) hx hb dX33_closesIn_0 (by decide) ?_
  refine lv_istore_n (i := 1) (lv' := [(1, .int (0 : Int32)), (0, va_rf (some h0))]) hx hb dX33_closesIn_1 rfl hl (by decide) (by first | rfl | simp [List.filter_cons, z_cat, z_catI, z_catJ, z_catF, z_catD]) (fun ls hl => ?_)
  refine lv_iconst (v := (0 : Int32)) hx hb dX33_closesIn_2 (by decide) ?_
  refine lv_istore_n (i := 2) (lv' := [(2, .int (0 : Int32)), (1, .int (0 : Int32)), (0, va_rf (some h0))]) hx hb dX33_closesIn_3 rfl hl (by decide) (by first | rfl | simp [List.filter_cons, z_cat, z_catI, z_catJ, z_catF, z_catD]) (fun ls hl => ?_)
  obtain ⟨I_4, ⟨n_237, hI⟩, hB_4⟩ := hw
  have hL_4 : ∀ (n_5 : Nat) (x_1 : Int32) (x_2 : Int32) (hp_3 : zHp) (nx_4 : Nat) (H : Heap) (locs : List Loc) (ls : Array Slot), I_4 n_5 x_1 x_2 hp_3 nx_4 → lv_has ls 9 [(0, va_rf (some h0)), (1, .int x_1), (2, .int x_2)] → zHd g hp_3 H → H.size = nx_4 → va_S (zAd g) s.heap H locs → W p l e (zrm (d + 1) 0 0) s m ([.ref h0] : List Value).toArray below meth c H locs 0 0 (MQ below (zQv g Post) ([.ref h0] : List Value).toArray s 0 0 (zAd g)) (F0 m 4 ls []) := by
    intro n_5
    induction n_5 using Nat.strongRecOn with
    | _ n_5 ih_4 =>
      intro x_1 x_2 hp_3 nx_4 H locs ls hw hl hH hz hS
      have hw := hB_4 n_5 x_1 x_2 hp_3 nx_4 hw
      refine lv_iload_n hx hb dX33_closesIn_4 rfl (lv_at hl 2 rfl) ?_
      refine lv_bipush (v := (40 : Int32)) hx hb dX33_closesIn_5 (by decide) ?_
      obtain ⟨P_246, hP_246, hw⟩ := hw
      have hJ_246 : ∀ (x_6 : Int32) (x_7 : Int32) (hp_8 : zHp) (nx_9 : Nat) (H : Heap) (locs : List Loc) (ls : Array Slot), P_246 x_6 x_7 hp_8 nx_9 → lv_has ls 9 [(0, va_rf (some h0)), (1, .int x_6), (2, .int x_7)] → zHd g hp_8 H → H.size = nx_9 → va_S (zAd g) s.heap H locs → W p l e (zrm (d + 1) 0 0) s m ([.ref h0] : List Value).toArray below meth c H locs 0 0 (MQ below (zQv g Post) ([.ref h0] : List Value).toArray s 0 0 (zAd g)) (F0 m 246 ls []) := by
        intro x_6 x_7 hp_8 nx_9 H locs ls hw hl hH hz hS
        have hw := hP_246 x_6 x_7 hp_8 nx_9 hw
        refine zr_aload_n (r := some h0) hx hb dX33_closesIn_246 rfl (lv_at hl 0 rfl) ?_
        refine zr_aload_n (r := some h0) hx hb dX33_closesIn_247 rfl (lv_at hl 0 rfl) ?_
        obtain ⟨a_10, ci_11, fs_12, x_13, er, he, hc, hv, hw⟩ := zgD_e hw
        refine zw_get hk hH er he hv (fk_X33_66 hc) dX33_closesIn_248 ?_
        obtain ⟨a_57, ci_58, fs_59, er, he, hc, hw⟩ := zo_e hw
        obtain rfl := List.mem_singleton.mp hc
        refine zr_calld (zw_runV (As := [.double x_13]) hk hH hz hS hl.1 er hw (cwV 1 hts (lw_V q2553 q2555 qs63 q198 q2556) rfl rfl rfl (by decide +kernel) (z_room (Nat.le_of_ble_eq_true rfl))) he rfl rfl rfl (Nat.le_of_ble_eq_true rfl) dX33_closesIn_251 ⟨Nat.le_of_ble_eq_true rfl, Nat.le_of_ble_eq_true rfl⟩) hS (fun x_16 hp_14 nx_15 hw H locs hH hz hS => ?_)
        refine zr_aload_n (r := some h0) hx hb dX33_closesIn_254 rfl (lv_at hl 0 rfl) ?_
        refine zr_aload_n (r := some h0) hx hb dX33_closesIn_255 rfl (lv_at hl 0 rfl) ?_
        obtain ⟨a_17, ci_18, fs_19, x_20, er, he, hc, hv, hw⟩ := zgD_e hw
        refine zw_get hk hH er he hv (fk_X33_60 hc) dX33_closesIn_256 ?_
        obtain ⟨a_54, ci_55, fs_56, er, he, hc, hw⟩ := zo_e hw
        obtain rfl := List.mem_singleton.mp hc
        refine zr_calld (zw_runV (As := [.double x_20]) hk hH hz hS hl.1 er hw (cwV 1 hts (lw_V q2553 q2555 qs63 q198 q2556) rfl rfl rfl (by decide +kernel) (z_room (Nat.le_of_ble_eq_true rfl))) he rfl rfl rfl (Nat.le_of_ble_eq_true rfl) dX33_closesIn_259 ⟨Nat.le_of_ble_eq_true rfl, Nat.le_of_ble_eq_true rfl⟩) hS (fun x_23 hp_21 nx_22 hw H locs hH hz hS => ?_)
        refine lv_dcmp hx hb dX33_closesIn_262 ?_
        obtain ⟨P_293, hP_293, hw⟩ := hw
        have hJ_293 : ∀ (x_24 : Int32) (x_25 : Int32) (hp_26 : zHp) (nx_27 : Nat) (H : Heap) (locs : List Loc) (ls : Array Slot), P_293 x_24 x_25 hp_26 nx_27 → lv_has ls 9 [(0, va_rf (some h0)), (1, .int x_24), (2, .int x_25)] → zHd g hp_26 H → H.size = nx_27 → va_S (zAd g) s.heap H locs → W p l e (zrm (d + 1) 0 0) s m ([.ref h0] : List Value).toArray below meth c H locs 0 0 (MQ below (zQv g Post) ([.ref h0] : List Value).toArray s 0 0 (zAd g)) (F0 m 293 ls []) := by
          intro x_24 x_25 hp_26 nx_27 H locs ls hw hl hH hz hS
          have hw := hP_293 x_24 x_25 hp_26 nx_27 hw
          exact zr_vret hk hr hH hz hS hw (Nat.le_of_ble_eq_true rfl) (Nat.le_of_ble_eq_true rfl) dX33_closesIn_293
        refine lv_if_ge (tgt := 281) hx hb dX33_closesIn_263 (by decide) (fun hc => ?_) (fun hc => ?_)
        · have hw := hw.1 hc
          refine zr_aload_n (r := some h0) hx hb dX33_closesIn_281 rfl (lv_at hl 0 rfl) ?_
          refine zr_aload_n (r := some h0) hx hb dX33_closesIn_282 rfl (lv_at hl 0 rfl) ?_
          obtain ⟨a_28, ci_29, fs_30, x_31, er, he, hc, hv, hw⟩ := zgD_e hw
          refine zw_get hk hH er he hv (fk_X33_32 hc) dX33_closesIn_283 ?_
          refine zr_aload_n (r := some h0) hx hb dX33_closesIn_286 rfl (lv_at hl 0 rfl) ?_
          obtain ⟨a_32, ci_33, fs_34, x_35, er, he, hc, hv, hw⟩ := zgD_e hw
          refine zw_get hk hH er he hv (fk_X33_60 hc) dX33_closesIn_287 ?_
          obtain ⟨a_38, ci_39, fs_40, er, he, hc, hw⟩ := zo_e hw
          obtain rfl := List.mem_singleton.mp hc
          refine zr_callv (zw_runV (As := [.double x_31, .double x_35]) hk hH hz hS hl.1 er hw (cwV 2 hts (lw_V q2540 q2542 qs60 q198 q2543) rfl rfl rfl (by decide +kernel) (z_room (Nat.le_of_ble_eq_true rfl))) he rfl rfl rfl (Nat.le_of_ble_eq_true rfl) dX33_closesIn_290 ⟨Nat.le_of_ble_eq_true rfl, Nat.le_of_ble_eq_true rfl⟩) hS (fun hp_36 nx_37 hw H locs hH hz hS => ?_)
          exact hJ_293 x_6 x_7 hp_36 nx_37 _ _ _ hw hl hH hz hS
        · have hw := hw.2 hc
          refine zr_aload_n (r := some h0) hx hb dX33_closesIn_266 rfl (lv_at hl 0 rfl) ?_
          refine zr_aload_n (r := some h0) hx hb dX33_closesIn_267 rfl (lv_at hl 0 rfl) ?_
          obtain ⟨a_41, ci_42, fs_43, x_44, er, he, hc, hv, hw⟩ := zgD_e hw
          refine zw_get hk hH er he hv (fk_X33_35 hc) dX33_closesIn_268 ?_
          refine zr_aload_n (r := some h0) hx hb dX33_closesIn_271 rfl (lv_at hl 0 rfl) ?_
          obtain ⟨a_45, ci_46, fs_47, x_48, er, he, hc, hv, hw⟩ := zgD_e hw
          refine zw_get hk hH er he hv (fk_X33_66 hc) dX33_closesIn_272 ?_
          obtain ⟨a_51, ci_52, fs_53, er, he, hc, hw⟩ := zo_e hw
          obtain rfl := List.mem_singleton.mp hc
          refine zr_callv (zw_runV (As := [.double x_44, .double x_48]) hk hH hz hS hl.1 er hw (cwV 2 hts (lw_V q2540 q2542 qs60 q198 q2543) rfl rfl rfl (by decide +kernel) (z_room (Nat.le_of_ble_eq_true rfl))) he rfl rfl rfl (Nat.le_of_ble_eq_true rfl) dX33_closesIn_275 ⟨Nat.le_of_ble_eq_true rfl, Nat.le_of_ble_eq_true rfl⟩) hS (fun hp_49 nx_50 hw H locs hH hz hS => ?_)
          refine lv_goto (tgt := 293) hx hb dX33_closesIn_278 (by decide) ?_
          exact hJ_293 x_6 x_7 hp_49 nx_50 _ _ _ hw hl hH hz hS
      refine lv_icmp_ge (tgt := 246) hx hb dX33_closesIn_7 (by decide) (fun hc => ?_) (fun hc => ?_)
      · have hw := hw.1 hc
        exact hJ_246 x_1 x_2 hp_3 nx_4 _ _ _ hw hl hH hz hS
      · have hw := hw.2 hc
        refine lv_iload_n hx hb dX33_closesIn_10 rfl (lv_at hl 1 rfl) ?_
        obtain ⟨P_69, hP_69, hw⟩ := hw
        have hJ_69 : ∀ (x_60 : Int32) (x_61 : Int32) (x_62 : UInt64) (hp_63 : zHp) (nx_64 : Nat) (H : Heap) (locs : List Loc) (ls : Array Slot), P_69 x_60 x_61 x_62 hp_63 nx_64 → lv_has ls 9 [(0, va_rf (some h0)), (1, .int x_60), (2, .int x_61)] → zHd g hp_63 H → H.size = nx_64 → va_S (zAd g) s.heap H locs → W p l e (zrm (d + 1) 0 0) s m ([.ref h0] : List Value).toArray below meth c H locs 0 0 (MQ below (zQv g Post) ([.ref h0] : List Value).toArray s 0 0 (zAd g)) (F0 m 69 ls [.double x_62]) := by
          intro x_60 x_61 x_62 hp_63 nx_64 H locs ls hw hl hH hz hS
          have hw := hP_69 x_60 x_61 x_62 hp_63 nx_64 hw
          refine lv_dstore_n (i := 3) (lv' := [(3, .double x_62), (0, va_rf (some h0)), (1, .int x_60), (2, .int x_61)]) hx hb dX33_closesIn_69 rfl hl (by decide) (by first | rfl | simp [List.filter_cons, z_cat, z_catI, z_catJ, z_catF, z_catD]) (fun ls hl => ?_)
          refine zr_aload_n (r := some h0) hx hb dX33_closesIn_70 rfl (lv_at hl 1 rfl) ?_
          refine lv_dload_n hx hb dX33_closesIn_71 rfl (lv_at hl 0 rfl) ?_
          obtain ⟨a_194, ci_195, fs_196, er, he, hc, hw⟩ := zo_e hw
          obtain rfl := List.mem_singleton.mp hc
          refine zr_calli (zw_runV (As := [.double x_62]) hk hH hz hS hl.1 er hw (cwV 1 hts (lw_V q2549 q2551 qs62 q198 q2552) rfl rfl rfl (by decide +kernel) (z_room (Nat.le_of_ble_eq_true rfl))) he rfl rfl rfl (Nat.le_of_ble_eq_true rfl) dX33_closesIn_72 ⟨Nat.le_of_ble_eq_true rfl, Nat.le_of_ble_eq_true rfl⟩) hS (fun x_67 hp_65 nx_66 hw H locs hH hz hS => ?_)
          obtain ⟨P_97, hP_97, hw⟩ := hw
          have hJ_97 : ∀ (x_68 : Int32) (x_69 : Int32) (x_70 : UInt64) (hp_71 : zHp) (nx_72 : Nat) (H : Heap) (locs : List Loc) (ls : Array Slot), P_97 x_68 x_69 x_70 hp_71 nx_72 → lv_has ls 9 [(0, va_rf (some h0)), (1, .int x_68), (2, .int x_69), (3, .double x_70)] → zHd g hp_71 H → H.size = nx_72 → va_S (zAd g) s.heap H locs → W p l e (zrm (d + 1) 0 0) s m ([.ref h0] : List Value).toArray below meth c H locs 0 0 (MQ below (zQv g Post) ([.ref h0] : List Value).toArray s 0 0 (zAd g)) (F0 m 97 ls []) := by
            intro x_68 x_69 x_70 hp_71 nx_72 H locs ls hw hl hH hz hS
            have hw := hP_97 x_68 x_69 x_70 hp_71 nx_72 hw
            refine zr_aload_n (r := some h0) hx hb dX33_closesIn_97 rfl (lv_at hl 0 rfl) ?_
            refine lv_dload_n hx hb dX33_closesIn_98 rfl (lv_at hl 3 rfl) ?_
            obtain ⟨a_178, ci_179, fs_180, er, he, hc, hw⟩ := zo_e hw
            obtain rfl := List.mem_singleton.mp hc
            refine zr_calli (zw_runV (As := [.double x_70]) hk hH hz hS hl.1 er hw (cwV 1 hts (lw_V q2549 q2551 qs62 q198 q2552) rfl rfl rfl (by decide +kernel) (z_room (Nat.le_of_ble_eq_true rfl))) he rfl rfl rfl (Nat.le_of_ble_eq_true rfl) dX33_closesIn_99 ⟨Nat.le_of_ble_eq_true rfl, Nat.le_of_ble_eq_true rfl⟩) hS (fun x_75 hp_73 nx_74 hw H locs hH hz hS => ?_)
            refine lv_if_ne (tgt := 108) hx hb dX33_closesIn_102 (by decide) (fun hc => ?_) (fun hc => ?_)
            · have hw := hw.2 hc
              refine zr_aload_n (r := some h0) hx hb dX33_closesIn_108 rfl (lv_at hl 0 rfl) ?_
              refine lv_dload_n hx hb dX33_closesIn_109 rfl (lv_at hl 3 rfl) ?_
              obtain ⟨a_175, ci_176, fs_177, er, he, hc, hw⟩ := zo_e hw
              obtain rfl := List.mem_singleton.mp hc
              refine zr_calld (zw_runV (As := [.double x_70]) hk hH hz hS hl.1 er hw (cwV 1 hts (lw_V q2534 q2536 qs59 q198 q2537) rfl rfl rfl (by decide +kernel) (z_room (Nat.le_of_ble_eq_true rfl))) he rfl rfl rfl (Nat.le_of_ble_eq_true rfl) dX33_closesIn_110 ⟨Nat.le_of_ble_eq_true rfl, Nat.le_of_ble_eq_true rfl⟩) hS (fun x_78 hp_76 nx_77 hw H locs hH hz hS => ?_)
              refine lv_dstore (lv' := [(5, .double x_78), (0, va_rf (some h0)), (1, .int x_68), (2, .int x_69), (3, .double x_70)]) hx hb dX33_closesIn_113 hl (by decide) (by first | rfl | simp [List.filter_cons, z_cat, z_catI, z_catJ, z_catF, z_catD]) (fun ls hl => ?_)
              refine zr_aload_n (r := some h0) hx hb dX33_closesIn_115 rfl (lv_at hl 1 rfl) ?_
              obtain ⟨a_79, ci_80, fs_81, r_82, er, he, hc, hv, hw⟩ := zgR_e hw
              refine zw_get hk hH er he hv (fk_X33_3 hc) dX33_closesIn_116 ?_
              obtain ⟨a_83, ci_84, fs_85, x_86, er, he, hc, hv, hw⟩ := zgI_e hw
              refine zw_getN hk hH er he hv (fn_X33_63 hc) dX33_closesIn_119 ?_
              refine lv_if_eq (tgt := 126) hx hb dX33_closesIn_122 (by decide) (fun hc => ?_) (fun hc => ?_)
              · have hw := hw.1 hc
                refine lv_dload hx hb dX33_closesIn_126 (lv_at hl 0 rfl) ?_
                refine zr_aload_n (r := some h0) hx hb dX33_closesIn_128 rfl (lv_at hl 1 rfl) ?_
                obtain ⟨a_87, ci_88, fs_89, x_90, er, he, hc, hv, hw⟩ := zgD_e hw
                refine zw_get hk hH er he hv (fk_X33_38 hc) dX33_closesIn_129 ?_
                refine lv_dcmp hx hb dX33_closesIn_132 ?_
                refine lv_if_ne (tgt := 144) hx hb dX33_closesIn_133 (by decide) (fun hc => ?_) (fun hc => ?_)
                · have hw := hw.2 hc
                  refine zr_aload_n (r := some h0) hx hb dX33_closesIn_144 rfl (lv_at hl 1 rfl) ?_
                  obtain ⟨a_91, ci_92, fs_93, x_94, er, he, hc, hv, hw⟩ := zgD_e hw
                  refine zw_get hk hH er he hv (fk_X33_35 hc) dX33_closesIn_145 ?_
                  refine zr_aload_n (r := some h0) hx hb dX33_closesIn_148 rfl (lv_at hl 1 rfl) ?_
                  obtain ⟨a_95, ci_96, fs_97, x_98, er, he, hc, hv, hw⟩ := zgD_e hw
                  refine zw_get hk hH er he hv (fk_X33_32 hc) dX33_closesIn_149 ?_
                  obtain ⟨hne, hw⟩ := hw
                  refine lv_dsub hx hb dX33_closesIn_152 hne ?_
                  refine lv_topd (fun x_99 ex_99 => ?_)
                  have hw := hw x_99 ex_99
                  refine lv_dstore (lv' := [(7, .double x_99), (5, .double x_78), (0, va_rf (some h0)), (1, .int x_68), (2, .int x_69), (3, .double x_70)]) hx hb dX33_closesIn_153 hl (by decide) (by first | rfl | simp [List.filter_cons, z_cat, z_catI, z_catJ, z_catF, z_catD]) (fun ls hl => ?_)
                  refine lv_dload hx hb dX33_closesIn_155 (lv_at hl 1 rfl) ?_
                  refine zr_aload_n (r := some h0) hx hb dX33_closesIn_157 rfl (lv_at hl 2 rfl) ?_
                  obtain ⟨a_100, ci_101, fs_102, x_103, er, he, hc, hv, hw⟩ := zgD_e hw
                  refine zw_get hk hH er he hv (fk_X33_38 hc) dX33_closesIn_158 ?_
                  refine lv_dcmp hx hb dX33_closesIn_161 ?_
                  obtain ⟨P_170, hP_170, hw⟩ := hw
                  have hJ_170 : ∀ (x_104 : Int32) (x_105 : Int32) (x_106 : UInt64) (x_107 : UInt64) (x_108 : UInt64) (x_109 : Int32) (hp_110 : zHp) (nx_111 : Nat) (H : Heap) (locs : List Loc) (ls : Array Slot), P_170 x_104 x_105 x_106 x_107 x_108 x_109 hp_110 nx_111 → lv_has ls 9 [(0, va_rf (some h0)), (1, .int x_104), (2, .int x_105), (3, .double x_106), (5, .double x_107), (7, .double x_108)] → zHd g hp_110 H → H.size = nx_111 → va_S (zAd g) s.heap H locs → W p l e (zrm (d + 1) 0 0) s m ([.ref h0] : List Value).toArray below meth c H locs 0 0 (MQ below (zQv g Post) ([.ref h0] : List Value).toArray s 0 0 (zAd g)) (F0 m 170 ls [.int x_109]) := by
                    intro x_104 x_105 x_106 x_107 x_108 x_109 hp_110 nx_111 H locs ls hw hl hH hz hS
                    have hw := hP_170 x_104 x_105 x_106 x_107 x_108 x_109 hp_110 nx_111 hw
                    refine zr_aload_n (r := some h0) hx hb dX33_closesIn_170 rfl (lv_at hl 0 rfl) ?_
                    obtain ⟨a_112, ci_113, fs_114, x_115, er, he, hc, hv, hw⟩ := zgD_e hw
                    refine zw_get hk hH er he hv (fk_X33_60 hc) dX33_closesIn_171 ?_
                    refine zr_aload_n (r := some h0) hx hb dX33_closesIn_174 rfl (lv_at hl 0 rfl) ?_
                    obtain ⟨a_116, ci_117, fs_118, x_119, er, he, hc, hv, hw⟩ := zgD_e hw
                    refine zw_get hk hH er he hv (fk_X33_38 hc) dX33_closesIn_175 ?_
                    refine lv_dcmp hx hb dX33_closesIn_178 ?_
                    obtain ⟨P_187, hP_187, hw⟩ := hw
                    have hJ_187 : ∀ (x_120 : Int32) (x_121 : Int32) (x_122 : UInt64) (x_123 : UInt64) (x_124 : UInt64) (x_125 : Int32) (x_126 : Int32) (hp_127 : zHp) (nx_128 : Nat) (H : Heap) (locs : List Loc) (ls : Array Slot), P_187 x_120 x_121 x_122 x_123 x_124 x_125 x_126 hp_127 nx_128 → lv_has ls 9 [(0, va_rf (some h0)), (1, .int x_120), (2, .int x_121), (3, .double x_122), (5, .double x_123), (7, .double x_124)] → zHd g hp_127 H → H.size = nx_128 → va_S (zAd g) s.heap H locs → W p l e (zrm (d + 1) 0 0) s m ([.ref h0] : List Value).toArray below meth c H locs 0 0 (MQ below (zQv g Post) ([.ref h0] : List Value).toArray s 0 0 (zAd g)) (F0 m 187 ls [.int x_126, .int x_125]) := by
                      intro x_120 x_121 x_122 x_123 x_124 x_125 x_126 hp_127 nx_128 H locs ls hw hl hH hz hS
                      have hw := hP_187 x_120 x_121 x_122 x_123 x_124 x_125 x_126 hp_127 nx_128 hw
                      obtain ⟨P_215, hP_215, hw⟩ := hw
                      have hJ_215 : ∀ (x_129 : Int32) (x_130 : Int32) (x_131 : UInt64) (x_132 : UInt64) (x_133 : UInt64) (hp_134 : zHp) (nx_135 : Nat) (H : Heap) (locs : List Loc) (ls : Array Slot), P_215 x_129 x_130 x_131 x_132 x_133 hp_134 nx_135 → lv_has ls 9 [(0, va_rf (some h0)), (1, .int x_129), (2, .int x_130), (3, .double x_131), (5, .double x_132), (7, .double x_133)] → zHd g hp_134 H → H.size = nx_135 → va_S (zAd g) s.heap H locs → W p l e (zrm (d + 1) 0 0) s m ([.ref h0] : List Value).toArray below meth c H locs 0 0 (MQ below (zQv g Post) ([.ref h0] : List Value).toArray s 0 0 (zAd g)) (F0 m 215 ls []) := by
                        intro x_129 x_130 x_131 x_132 x_133 hp_134 nx_135 H locs ls hw hl hH hz hS
                        have hw := hP_215 x_129 x_130 x_131 x_132 x_133 hp_134 nx_135 hw
                        refine zr_aload_n (r := some h0) hx hb dX33_closesIn_215 rfl (lv_at hl 0 rfl) ?_
                        obtain ⟨a_136, ci_137, fs_138, x_139, er, he, hc, hv, hw⟩ := zgD_e hw
                        refine zw_get hk hH er he hv (fk_X33_35 hc) dX33_closesIn_216 ?_
                        refine zr_aload_n (r := some h0) hx hb dX33_closesIn_219 rfl (lv_at hl 0 rfl) ?_
                        obtain ⟨a_140, ci_141, fs_142, x_143, er, he, hc, hv, hw⟩ := zgD_e hw
                        refine zw_get hk hH er he hv (fk_X33_32 hc) dX33_closesIn_220 ?_
                        obtain ⟨hne, hw⟩ := hw
                        refine lv_dsub hx hb dX33_closesIn_223 hne ?_
                        refine lv_dload hx hb dX33_closesIn_224 (lv_at hl 5 rfl) ?_
                        refine lv_ldc2d hx hb hown (hts _ q2548) dX33_closesIn_226 ?_
                        obtain ⟨hne, hw⟩ := hw
                        refine lv_ddiv hx hb dX33_closesIn_229 hne ?_
                        refine lv_dcmp hx hb dX33_closesIn_230 ?_
                        obtain ⟨P_239, hP_239, hw⟩ := hw
                        have hJ_239 : ∀ (x_144 : Int32) (x_145 : Int32) (x_146 : UInt64) (x_147 : UInt64) (x_148 : UInt64) (x_149 : Int32) (hp_150 : zHp) (nx_151 : Nat) (H : Heap) (locs : List Loc) (ls : Array Slot), P_239 x_144 x_145 x_146 x_147 x_148 x_149 hp_150 nx_151 → lv_has ls 9 [(0, va_rf (some h0)), (1, .int x_144), (2, .int x_145), (3, .double x_146), (5, .double x_147), (7, .double x_148)] → zHd g hp_150 H → H.size = nx_151 → va_S (zAd g) s.heap H locs → W p l e (zrm (d + 1) 0 0) s m ([.ref h0] : List Value).toArray below meth c H locs 0 0 (MQ below (zQv g Post) ([.ref h0] : List Value).toArray s 0 0 (zAd g)) (F0 m 239 ls [.int x_149]) := by
                          intro x_144 x_145 x_146 x_147 x_148 x_149 hp_150 nx_151 H locs ls hw hl hH hz hS
                          have hw := hP_239 x_144 x_145 x_146 x_147 x_148 x_149 hp_150 nx_151 hw
                          refine lv_istore_n (i := 1) (lv' := [(1, .int x_149), (0, va_rf (some h0)), (2, .int x_145), (3, .double x_146), (5, .double x_147), (7, .double x_148)]) hx hb dX33_closesIn_239 rfl hl (by decide) (by first | rfl | simp [List.filter_cons, z_cat, z_catI, z_catJ, z_catF, z_catD]) (fun ls hl => ?_)
                          obtain ⟨x_152, ex_152⟩ : ∃ y : Int32, y = x_145 + (1 : Int32) := ⟨_, rfl⟩
                          have hw := hw x_152 ex_152
                          refine lv_iinc (v := x_152) (lv' := [(2, .int x_152), (1, .int x_149), (0, va_rf (some h0)), (3, .double x_146), (5, .double x_147), (7, .double x_148)]) hx hb dX33_closesIn_240 hl (k := 2) rfl (by rw [ex_152]; rfl) (by decide) (by first | rfl | simp [List.filter_cons, z_cat, z_catI, z_catJ, z_catF, z_catD]) (fun ls hl => ?_)
                          refine lv_goto (tgt := 4) hx hb dX33_closesIn_243 (by decide) ?_
                          obtain ⟨k_153, hlt, hw⟩ := hw
                          exact ih_4 k_153 hlt x_149 x_152 hp_150 nx_151 _ _ _ hw (lv_sub hl [2, 1, 0] rfl) hH hz hS
                        refine lv_if_gt (tgt := 238) hx hb dX33_closesIn_231 (by decide) (fun hc => ?_) (fun hc => ?_)
                        · have hw := hw.1 hc
                          refine lv_iconst (v := (0 : Int32)) hx hb dX33_closesIn_238 (by decide) ?_
                          exact hJ_239 x_129 x_130 x_131 x_132 x_133 (0 : Int32) hp_134 nx_135 _ _ _ hw hl hH hz hS
                        · have hw := hw.2 hc
                          refine lv_iconst (v := (1 : Int32)) hx hb dX33_closesIn_234 (by decide) ?_
                          refine lv_goto (tgt := 239) hx hb dX33_closesIn_235 (by decide) ?_
                          exact hJ_239 x_129 x_130 x_131 x_132 x_133 (1 : Int32) hp_134 nx_135 _ _ _ hw hl hH hz hS
                      refine lv_icmp_ne (tgt := 204) hx hb dX33_closesIn_187 (by decide) (fun hc => ?_) (fun hc => ?_)
                      · have hw := hw.2 hc
                        refine zr_aload_n (r := some h0) hx hb dX33_closesIn_204 rfl (lv_at hl 0 rfl) ?_
                        refine lv_dload_n hx hb dX33_closesIn_205 rfl (lv_at hl 3 rfl) ?_
                        obtain ⟨a_154, ci_155, fs_156, hp_157, er, he, hc, hA, hkl, eh, hw⟩ := zpt_e hw
                        refine zw_put hk hH hz hS er he hA hkl eh (fp_X33_35 hc) rfl rfl dX33_closesIn_206 (fun H locs hH hz hS => ?_)
                        refine zr_aload_n (r := some h0) hx hb dX33_closesIn_209 rfl (lv_at hl 0 rfl) ?_
                        refine lv_dload hx hb dX33_closesIn_210 (lv_at hl 4 rfl) ?_
                        obtain ⟨a_158, ci_159, fs_160, hp_161, er, he, hc, hA, hkl, eh, hw⟩ := zpt_e hw
                        refine zw_put hk hH hz hS er he hA hkl eh (fp_X33_66 hc) rfl rfl dX33_closesIn_212 (fun H locs hH hz hS => ?_)
                        exact hJ_215 x_120 x_121 x_122 x_123 x_124 hp_161 nx_128 _ _ _ hw hl hH hz hS
                      · have hw := hw.1 hc
                        refine zr_aload_n (r := some h0) hx hb dX33_closesIn_190 rfl (lv_at hl 0 rfl) ?_
                        refine lv_dload_n hx hb dX33_closesIn_191 rfl (lv_at hl 3 rfl) ?_
                        obtain ⟨a_162, ci_163, fs_164, hp_165, er, he, hc, hA, hkl, eh, hw⟩ := zpt_e hw
                        refine zw_put hk hH hz hS er he hA hkl eh (fp_X33_32 hc) rfl rfl dX33_closesIn_192 (fun H locs hH hz hS => ?_)
                        refine zr_aload_n (r := some h0) hx hb dX33_closesIn_195 rfl (lv_at hl 0 rfl) ?_
                        refine lv_dload hx hb dX33_closesIn_196 (lv_at hl 4 rfl) ?_
                        obtain ⟨a_166, ci_167, fs_168, hp_169, er, he, hc, hA, hkl, eh, hw⟩ := zpt_e hw
                        refine zw_put hk hH hz hS er he hA hkl eh (fp_X33_60 hc) rfl rfl dX33_closesIn_198 (fun H locs hH hz hS => ?_)
                        refine lv_goto (tgt := 215) hx hb dX33_closesIn_201 (by decide) ?_
                        exact hJ_215 x_120 x_121 x_122 x_123 x_124 hp_169 nx_128 _ _ _ hw hl hH hz hS
                    refine lv_if_ge (tgt := 186) hx hb dX33_closesIn_179 (by decide) (fun hc => ?_) (fun hc => ?_)
                    · have hw := hw.1 hc
                      refine lv_iconst (v := (0 : Int32)) hx hb dX33_closesIn_186 (by decide) ?_
                      exact hJ_187 x_104 x_105 x_106 x_107 x_108 x_109 (0 : Int32) hp_110 nx_111 _ _ _ hw hl hH hz hS
                    · have hw := hw.2 hc
                      refine lv_iconst (v := (1 : Int32)) hx hb dX33_closesIn_182 (by decide) ?_
                      refine lv_goto (tgt := 187) hx hb dX33_closesIn_183 (by decide) ?_
                      exact hJ_187 x_104 x_105 x_106 x_107 x_108 x_109 (1 : Int32) hp_110 nx_111 _ _ _ hw hl hH hz hS
                  refine lv_if_ge (tgt := 169) hx hb dX33_closesIn_162 (by decide) (fun hc => ?_) (fun hc => ?_)
                  · have hw := hw.1 hc
                    refine lv_iconst (v := (0 : Int32)) hx hb dX33_closesIn_169 (by decide) ?_
                    exact hJ_170 x_68 x_69 x_70 x_78 x_99 (0 : Int32) hp_76 nx_77 _ _ _ hw (lv_sub hl [2, 3, 4, 5, 1, 0] rfl) hH hz hS
                  · have hw := hw.2 hc
                    refine lv_iconst (v := (1 : Int32)) hx hb dX33_closesIn_165 (by decide) ?_
                    refine lv_goto (tgt := 170) hx hb dX33_closesIn_166 (by decide) ?_
                    exact hJ_170 x_68 x_69 x_70 x_78 x_99 (1 : Int32) hp_76 nx_77 _ _ _ hw (lv_sub hl [2, 3, 4, 5, 1, 0] rfl) hH hz hS
                · have hw := hw.1 hc
                  refine zr_aload_n (r := some h0) hx hb dX33_closesIn_136 rfl (lv_at hl 1 rfl) ?_
                  refine lv_dload_n hx hb dX33_closesIn_137 rfl (lv_at hl 4 rfl) ?_
                  refine lv_dload hx hb dX33_closesIn_138 (lv_at hl 0 rfl) ?_
                  obtain ⟨a_172, ci_173, fs_174, er, he, hc, hw⟩ := zo_e hw
                  obtain rfl := List.mem_singleton.mp hc
                  refine zr_callv (zw_runV (As := [.double x_70, .double x_78]) hk hH hz hS hl.1 er hw (cwV 2 hts (lw_V q2540 q2542 qs60 q198 q2543) rfl rfl rfl (by decide +kernel) (z_room (Nat.le_of_ble_eq_true rfl))) he rfl rfl rfl (Nat.le_of_ble_eq_true rfl) dX33_closesIn_140 ⟨Nat.le_of_ble_eq_true rfl, Nat.le_of_ble_eq_true rfl⟩) hS (fun hp_170 nx_171 hw H locs hH hz hS => ?_)
                  exact zr_vret hk hr hH hz hS hw (Nat.le_of_ble_eq_true rfl) (Nat.le_of_ble_eq_true rfl) dX33_closesIn_143
              · have hw := hw.2 hc
                exact zr_vret hk hr hH hz hS hw (Nat.le_of_ble_eq_true rfl) (Nat.le_of_ble_eq_true rfl) dX33_closesIn_125
            · have hw := hw.1 hc
              refine lv_goto (tgt := 246) hx hb dX33_closesIn_105 (by decide) ?_
              exact hJ_246 x_68 x_69 hp_73 nx_74 _ _ _ hw (lv_sub hl [0, 1, 2] rfl) hH hz hS
          refine lv_if_ne (tgt := 97) hx hb dX33_closesIn_75 (by decide) (fun hc => ?_) (fun hc => ?_)
          · have hw := hw.2 hc
            exact hJ_97 x_60 x_61 x_62 hp_65 nx_66 _ _ _ hw (lv_sub hl [1, 2, 3, 0] rfl) hH hz hS
          · have hw := hw.1 hc
            refine zr_aload_n (r := some h0) hx hb dX33_closesIn_78 rfl (lv_at hl 1 rfl) ?_
            obtain ⟨a_181, ci_182, fs_183, x_184, er, he, hc, hv, hw⟩ := zgD_e hw
            refine zw_get hk hH er he hv (fk_X33_32 hc) dX33_closesIn_79 ?_
            refine zr_aload_n (r := some h0) hx hb dX33_closesIn_82 rfl (lv_at hl 1 rfl) ?_
            obtain ⟨a_185, ci_186, fs_187, x_188, er, he, hc, hv, hw⟩ := zgD_e hw
            refine zw_get hk hH er he hv (fk_X33_35 hc) dX33_closesIn_83 ?_
            refine zr_aload_n (r := some h0) hx hb dX33_closesIn_86 rfl (lv_at hl 1 rfl) ?_
            obtain ⟨a_189, ci_190, fs_191, x_192, er, he, hc, hv, hw⟩ := zgD_e hw
            refine zw_get hk hH er he hv (fk_X33_32 hc) dX33_closesIn_87 ?_
            obtain ⟨hne, hw⟩ := hw
            refine lv_dsub hx hb dX33_closesIn_90 hne ?_
            refine lv_ldc2d hx hb hown (hts _ q2548) dX33_closesIn_91 ?_
            obtain ⟨hne, hw⟩ := hw
            refine lv_ddiv hx hb dX33_closesIn_94 hne ?_
            obtain ⟨hne, hw⟩ := hw
            refine lv_dadd hx hb dX33_closesIn_95 hne ?_
            refine lv_topd (fun x_193 ex_193 => ?_)
            have hw := hw x_193 ex_193
            refine lv_dstore_n (i := 3) (lv' := [(3, .double x_193), (0, va_rf (some h0)), (1, .int x_60), (2, .int x_61)]) hx hb dX33_closesIn_96 rfl hl (by decide) (by first | rfl | simp [List.filter_cons, z_cat, z_catI, z_catJ, z_catF, z_catD]) (fun ls hl => ?_)
            exact hJ_97 x_60 x_61 x_193 hp_65 nx_66 _ _ _ hw (lv_sub hl [1, 2, 3, 0] rfl) hH hz hS
        refine lv_if_eq (tgt := 51) hx hb dX33_closesIn_11 (by decide) (fun hc => ?_) (fun hc => ?_)
        · have hw := hw.1 hc
          refine zr_aload_n (r := some h0) hx hb dX33_closesIn_51 rfl (lv_at hl 0 rfl) ?_
          obtain ⟨a_197, ci_198, fs_199, x_200, er, he, hc, hv, hw⟩ := zgD_e hw
          refine zw_get hk hH er he hv (fk_X33_32 hc) dX33_closesIn_52 ?_
          refine zr_aload_n (r := some h0) hx hb dX33_closesIn_55 rfl (lv_at hl 0 rfl) ?_
          obtain ⟨a_201, ci_202, fs_203, x_204, er, he, hc, hv, hw⟩ := zgD_e hw
          refine zw_get hk hH er he hv (fk_X33_35 hc) dX33_closesIn_56 ?_
          refine zr_aload_n (r := some h0) hx hb dX33_closesIn_59 rfl (lv_at hl 0 rfl) ?_
          obtain ⟨a_205, ci_206, fs_207, x_208, er, he, hc, hv, hw⟩ := zgD_e hw
          refine zw_get hk hH er he hv (fk_X33_32 hc) dX33_closesIn_60 ?_
          obtain ⟨hne, hw⟩ := hw
          refine lv_dsub hx hb dX33_closesIn_63 hne ?_
          refine lv_ldc2d hx hb hown (hts _ q2548) dX33_closesIn_64 ?_
          obtain ⟨hne, hw⟩ := hw
          refine lv_ddiv hx hb dX33_closesIn_67 hne ?_
          obtain ⟨hne, hw⟩ := hw
          refine lv_dadd hx hb dX33_closesIn_68 hne ?_
          exact hJ_69 x_1 x_2 (FP.dadd x_200 (FP.ddiv (FP.dsub x_204 x_208) (4611686018427387904 : UInt64))) hp_3 nx_4 _ _ _ hw hl hH hz hS
        · have hw := hw.2 hc
          refine zr_aload_n (r := some h0) hx hb dX33_closesIn_14 rfl (lv_at hl 0 rfl) ?_
          obtain ⟨a_209, ci_210, fs_211, x_212, er, he, hc, hv, hw⟩ := zgD_e hw
          refine zw_get hk hH er he hv (fk_X33_32 hc) dX33_closesIn_15 ?_
          refine zr_aload_n (r := some h0) hx hb dX33_closesIn_18 rfl (lv_at hl 0 rfl) ?_
          obtain ⟨a_213, ci_214, fs_215, x_216, er, he, hc, hv, hw⟩ := zgD_e hw
          refine zw_get hk hH er he hv (fk_X33_38 hc) dX33_closesIn_19 ?_
          refine zr_aload_n (r := some h0) hx hb dX33_closesIn_22 rfl (lv_at hl 0 rfl) ?_
          obtain ⟨a_217, ci_218, fs_219, x_220, er, he, hc, hv, hw⟩ := zgD_e hw
          refine zw_get hk hH er he hv (fk_X33_60 hc) dX33_closesIn_23 ?_
          obtain ⟨hne, hw⟩ := hw
          refine lv_dsub hx hb dX33_closesIn_26 hne ?_
          refine zr_aload_n (r := some h0) hx hb dX33_closesIn_27 rfl (lv_at hl 0 rfl) ?_
          obtain ⟨a_221, ci_222, fs_223, x_224, er, he, hc, hv, hw⟩ := zgD_e hw
          refine zw_get hk hH er he hv (fk_X33_35 hc) dX33_closesIn_28 ?_
          refine zr_aload_n (r := some h0) hx hb dX33_closesIn_31 rfl (lv_at hl 0 rfl) ?_
          obtain ⟨a_225, ci_226, fs_227, x_228, er, he, hc, hv, hw⟩ := zgD_e hw
          refine zw_get hk hH er he hv (fk_X33_32 hc) dX33_closesIn_32 ?_
          obtain ⟨hne, hw⟩ := hw
          refine lv_dsub hx hb dX33_closesIn_35 hne ?_
          obtain ⟨hne, hw⟩ := hw
          refine lv_dmul hx hb dX33_closesIn_36 hne ?_
          refine zr_aload_n (r := some h0) hx hb dX33_closesIn_37 rfl (lv_at hl 0 rfl) ?_
          obtain ⟨a_229, ci_230, fs_231, x_232, er, he, hc, hv, hw⟩ := zgD_e hw
          refine zw_get hk hH er he hv (fk_X33_66 hc) dX33_closesIn_38 ?_
          refine zr_aload_n (r := some h0) hx hb dX33_closesIn_41 rfl (lv_at hl 0 rfl) ?_
          obtain ⟨a_233, ci_234, fs_235, x_236, er, he, hc, hv, hw⟩ := zgD_e hw
          refine zw_get hk hH er he hv (fk_X33_60 hc) dX33_closesIn_42 ?_
          obtain ⟨hne, hw⟩ := hw
          refine lv_dsub hx hb dX33_closesIn_45 hne ?_
          obtain ⟨hne, hw⟩ := hw
          refine lv_ddiv hx hb dX33_closesIn_46 hne ?_
          obtain ⟨hne, hw⟩ := hw
          refine lv_dadd hx hb dX33_closesIn_47 hne ?_
          refine lv_goto (tgt := 69) hx hb dX33_closesIn_48 (by decide) ?_
          exact hJ_69 x_1 x_2 (FP.dadd x_212 (FP.ddiv (FP.dmul (FP.dsub x_216 x_220) (FP.dsub x_224 x_228)) (FP.dsub x_232 x_236))) hp_3 nx_4 _ _ _ hw hl hH hz hS
  exact hL_4 n_237 (0 : Int32) (0 : Int32) hp nx _ _ _ hI (lv_sub hl [2, 1, 0] rfl) hH hz hS
def wp_X33_isInside (l : Launch) (g : zG) (d : Nat) (h0 : Nat) (x1 : UInt64) (hp : zHp) (nx : Nat) (Post : Int32 → zHp → Nat → Prop) : Prop :=
  (zgD hp (some h0) [33] 3 fun x_4 =>
  (∃ P_23 : Int32 → Prop, (∀ (x_5 : Int32), P_23 x_5 →
  (((x_5 = 0 ∨ x_5 = 1) ∧ Post x_5 hp nx))) ∧
  (∃ P_22 : Prop, (P_22 →
  P_23 (0 : Int32)) ∧
  (((Op.cmpValue (FP.dcmp x1 x_4) .l) ≤ 0 →
  P_22) ∧
  (¬ (Op.cmpValue (FP.dcmp x1 x_4) .l) ≤ 0 →
  (zgD hp (some h0) [33] 4 fun x_9 =>
  ((0 ≤ (Op.cmpValue (FP.dcmp x1 x_9) .g) →
  P_22) ∧
  (¬ 0 ≤ (Op.cmpValue (FP.dcmp x1 x_9) .g) →
  P_23 (1 : Int32)))))))))
set_option maxHeartbeats 40000000 in
theorem met_X33_isInside {l : Launch} {g : zG} {d : Nat} {h0 : Nat} {x1 : UInt64} {hp : zHp} {nx : Nat} {Post : Int32 → zHp → Nat → Prop} (hw : wp_X33_isInside l g d h0 x1 hp nx Post) : zMt l g yX33_isInside cX33_isInside 3 (some .boolean) (d + 1) 0 0 [.ref h0, .double x1] hp nx (zQi g Post) := by
  refine z_start (by decide) (Nat.le_of_ble_eq_true rfl) ?_
  intro p e s m below meth c hk hr hin hH hz ls hl
  have hx := hk.1.1
  have hb := hk.1.2.1
  have hown := hk.1.2.2.2.1
  have hts := hk.1.2.2.2.2
  have hS : va_S (zAd g) s.heap s.heap [] := va_S.rf
  have hl : lv_has ls 3 [(0, va_rf (some h0)), (1, .double x1)] := hl
  unfold wp_X33_isInside at hw
  refine lv_dload_n hx hb dX33_isInside_0 rfl (lv_at hl 1 rfl) ?_
  refine zr_aload_n (r := some h0) hx hb dX33_isInside_1 rfl (lv_at hl 0 rfl) ?_
  obtain ⟨a_1, ci_2, fs_3, x_4, er, he, hc, hv, hw⟩ := zgD_e hw
  refine zw_get hk hH er he hv (fk_X33_32 hc) dX33_isInside_2 ?_
  refine lv_dcmp hx hb dX33_isInside_5 ?_
  obtain ⟨P_23, hP_23, hw⟩ := hw
  have hJ_23 : ∀ (x_5 : Int32) (H : Heap) (locs : List Loc) (ls : Array Slot), P_23 x_5 → lv_has ls 3 [(0, va_rf (some h0)), (1, .double x1)] → zHd g hp H → H.size = nx → va_S (zAd g) s.heap H locs → W p l e (zrm (d + 1) 0 0) s m ([.ref h0, .double x1] : List Value).toArray below meth c H locs 0 0 (MQ below (zQi g Post) ([.ref h0, .double x1] : List Value).toArray s 0 0 (zAd g)) (F0 m 23 ls [.int x_5]) := by
    intro x_5 H locs ls hw hl hH hz hS
    have hw := hP_23 x_5 hw
    exact zr_zret hk hr hH hz hS hw.1 hw.2 (Nat.le_of_ble_eq_true rfl) (Nat.le_of_ble_eq_true rfl) dX33_isInside_23
  obtain ⟨P_22, hP_22, hw⟩ := hw
  have hJ_22 : ∀  (H : Heap) (locs : List Loc) (ls : Array Slot), P_22  → lv_has ls 3 [(0, va_rf (some h0)), (1, .double x1)] → zHd g hp H → H.size = nx → va_S (zAd g) s.heap H locs → W p l e (zrm (d + 1) 0 0) s m ([.ref h0, .double x1] : List Value).toArray below meth c H locs 0 0 (MQ below (zQi g Post) ([.ref h0, .double x1] : List Value).toArray s 0 0 (zAd g)) (F0 m 22 ls []) := by
    intro  H locs ls hw hl hH hz hS
    have hw := hP_22  hw
    refine lv_iconst (v := (0 : Int32)) hx hb dX33_isInside_22 (by decide) ?_
    exact hJ_23 (0 : Int32) _ _ _ hw hl hH hz hS
  refine lv_if_le (tgt := 22) hx hb dX33_isInside_6 (by decide) (fun hc => ?_) (fun hc => ?_)
  · have hw := hw.1 hc
    exact hJ_22  _ _ _ hw hl hH hz hS
  · have hw := hw.2 hc
    refine lv_dload_n hx hb dX33_isInside_9 rfl (lv_at hl 1 rfl) ?_
    refine zr_aload_n (r := some h0) hx hb dX33_isInside_10 rfl (lv_at hl 0 rfl) ?_
    obtain ⟨a_6, ci_7, fs_8, x_9, er, he, hc, hv, hw⟩ := zgD_e hw
    refine zw_get hk hH er he hv (fk_X33_35 hc) dX33_isInside_11 ?_
    refine lv_dcmp hx hb dX33_isInside_14 ?_
    refine lv_if_ge (tgt := 22) hx hb dX33_isInside_15 (by decide) (fun hc => ?_) (fun hc => ?_)
    · have hw := hw.1 hc
      exact hJ_22  _ _ _ hw hl hH hz hS
    · have hw := hw.2 hc
      refine lv_iconst (v := (1 : Int32)) hx hb dX33_isInside_18 (by decide) ?_
      refine lv_goto (tgt := 23) hx hb dX33_isInside_19 (by decide) ?_
      exact hJ_23 (1 : Int32) _ _ _ hw hl hH hz hS
def wp_X33_apart (l : Launch) (g : zG) (d : Nat) (h0 : Nat) (x1 : UInt64) (hp : zHp) (nx : Nat) (Post : UInt64 → zHp → Nat → Prop) : Prop :=
  (zgD hp (some h0) [33] 2 fun x_4 =>
  (∃ P_24 : UInt64 → Prop, (∀ (x_5 : UInt64), P_24 x_5 →
  (Post x_5 hp nx)) ∧
  ((0 ≤ (Op.cmpValue (FP.dcmp x1 x_4) .g) →
  (zgD hp (some h0) [33] 2 fun x_9 =>
  (vf_n64 (FP.dsub x1 x_9) ∧ P_24 (FP.dsub x1 x_9)))) ∧
  (¬ 0 ≤ (Op.cmpValue (FP.dcmp x1 x_4) .g) →
  (zgD hp (some h0) [33] 2 fun x_13 =>
  (vf_n64 (FP.dsub x_13 x1) ∧ P_24 (FP.dsub x_13 x1)))))))
set_option maxHeartbeats 40000000 in
theorem met_X33_apart {l : Launch} {g : zG} {d : Nat} {h0 : Nat} {x1 : UInt64} {hp : zHp} {nx : Nat} {Post : UInt64 → zHp → Nat → Prop} (hw : wp_X33_apart l g d h0 x1 hp nx Post) : zMt l g yX33_apart cX33_apart 3 (some .double) (d + 1) 0 0 [.ref h0, .double x1] hp nx (zQd g Post) := by
  refine z_start (by decide) (Nat.le_of_ble_eq_true rfl) ?_
  intro p e s m below meth c hk hr hin hH hz ls hl
  have hx := hk.1.1
  have hb := hk.1.2.1
  have hown := hk.1.2.2.2.1
  have hts := hk.1.2.2.2.2
  have hS : va_S (zAd g) s.heap s.heap [] := va_S.rf
  have hl : lv_has ls 3 [(0, va_rf (some h0)), (1, .double x1)] := hl
  unfold wp_X33_apart at hw
  refine lv_dload_n hx hb dX33_apart_0 rfl (lv_at hl 1 rfl) ?_
  refine zr_aload_n (r := some h0) hx hb dX33_apart_1 rfl (lv_at hl 0 rfl) ?_
  obtain ⟨a_1, ci_2, fs_3, x_4, er, he, hc, hv, hw⟩ := zgD_e hw
  refine zw_get hk hH er he hv (fk_X33_38 hc) dX33_apart_2 ?_
  refine lv_dcmp hx hb dX33_apart_5 ?_
  obtain ⟨P_24, hP_24, hw⟩ := hw
  have hJ_24 : ∀ (x_5 : UInt64) (H : Heap) (locs : List Loc) (ls : Array Slot), P_24 x_5 → lv_has ls 3 [(0, va_rf (some h0)), (1, .double x1)] → zHd g hp H → H.size = nx → va_S (zAd g) s.heap H locs → W p l e (zrm (d + 1) 0 0) s m ([.ref h0, .double x1] : List Value).toArray below meth c H locs 0 0 (MQ below (zQd g Post) ([.ref h0, .double x1] : List Value).toArray s 0 0 (zAd g)) (F0 m 24 ls [.double x_5]) := by
    intro x_5 H locs ls hw hl hH hz hS
    have hw := hP_24 x_5 hw
    exact zr_dret hk hr hH hz hS hw (Nat.le_of_ble_eq_true rfl) (Nat.le_of_ble_eq_true rfl) dX33_apart_24
  refine lv_if_ge (tgt := 18) hx hb dX33_apart_6 (by decide) (fun hc => ?_) (fun hc => ?_)
  · have hw := hw.1 hc
    refine lv_dload_n hx hb dX33_apart_18 rfl (lv_at hl 1 rfl) ?_
    refine zr_aload_n (r := some h0) hx hb dX33_apart_19 rfl (lv_at hl 0 rfl) ?_
    obtain ⟨a_6, ci_7, fs_8, x_9, er, he, hc, hv, hw⟩ := zgD_e hw
    refine zw_get hk hH er he hv (fk_X33_38 hc) dX33_apart_20 ?_
    obtain ⟨hne, hw⟩ := hw
    refine lv_dsub hx hb dX33_apart_23 hne ?_
    exact hJ_24 (FP.dsub x1 x_9) _ _ _ hw hl hH hz hS
  · have hw := hw.2 hc
    refine zr_aload_n (r := some h0) hx hb dX33_apart_9 rfl (lv_at hl 0 rfl) ?_
    obtain ⟨a_10, ci_11, fs_12, x_13, er, he, hc, hv, hw⟩ := zgD_e hw
    refine zw_get hk hH er he hv (fk_X33_38 hc) dX33_apart_10 ?_
    refine lv_dload_n hx hb dX33_apart_13 rfl (lv_at hl 1 rfl) ?_
    obtain ⟨hne, hw⟩ := hw
    refine lv_dsub hx hb dX33_apart_14 hne ?_
    refine lv_goto (tgt := 24) hx hb dX33_apart_15 (by decide) ?_
    exact hJ_24 (FP.dsub x_13 x1) _ _ _ hw hl hH hz hS
theorem ff_X4_7 {ci : Nat} (h : ci ∈ [4]) : zFf "WhatIfSheet$Refused" 7 ci 6 .int := by
  simp only [List.mem_cons, List.not_mem_nil, or_false] at h
  rcases h with rfl
  · exact ⟨RX4, TX4, 7, rfl, by decide, q1197, rfl, rfl, by decide +kernel⟩
def wp_X4_init (l : Launch) (g : zG) (d : Nat) (mc ms : Nat) (h0 : Nat) (x1 : Int32) (hp : zHp) (nx : Nat) (Post : zHp → Nat → Prop) : Prop :=
  (∃ c_1 s_2 : Nat, 0 + c_1 ≤ mc ∧ 0 + s_2 ≤ ms ∧ zMt l g yJ2_init_4 cJ2_init_4 5 none d c_1 s_2 (.ref h0 :: [va_rf none, va_rf none, .int (0 : Int32), .int (0 : Int32)]) hp nx (zQv g fun hp_3 nx_4 =>
  (zpt g hp_3 (some h0) [4] 6 (.int x1) fun hp_8 =>
  ((0 + c_1) ≤ mc ∧ (0 + s_2) ≤ ms ∧ Post hp_8 nx_4))))
set_option maxHeartbeats 40000000 in
theorem met_X4_init {l : Launch} {g : zG} {d : Nat} {mc ms : Nat} {h0 : Nat} {x1 : Int32} {hp : zHp} {nx : Nat} {Post : zHp → Nat → Prop} (hw : wp_X4_init l g d mc ms h0 x1 hp nx Post) : zMt l g yX4_init cX4_init 2 none (d + 1) mc ms [.ref h0, .int x1] hp nx (zQv g Post) := by
  refine z_start (by decide) (Nat.le_of_ble_eq_true rfl) ?_
  intro p e s m below meth c hk hr hin hH hz ls hl
  have hx := hk.1.1
  have hb := hk.1.2.1
  have hown := hk.1.2.2.2.1
  have hts := hk.1.2.2.2.2
  have hS : va_S (zAd g) s.heap s.heap [] := va_S.rf
  have hl : lv_has ls 2 [(0, va_rf (some h0)), (1, .int x1)] := hl
  unfold wp_X4_init at hw
  refine zr_aload_n (r := some h0) hx hb dX4_init_0 rfl (lv_at hl 0 rfl) ?_
  refine zx_null hx hb dX4_init_1 ?_
  refine zx_null hx hb dX4_init_2 ?_
  refine lv_iconst (v := (0 : Int32)) hx hb dX4_init_3 (by decide) ?_
  refine lv_iconst (v := (0 : Int32)) hx hb dX4_init_4 (by decide) ?_
  obtain ⟨c_1, s_2, hcl, hsl, hw⟩ := hw
  refine zr_callv (zw_runI (As := [va_rf none, va_rf none, .int (0 : Int32), .int (0 : Int32)]) (r := some h0) hk hH hz hS hl.1 rfl hw (cwI 4 hts (lw_meth q1193) rfl rfl rfl (hts _ q135) (hts _ q1191) (hts _ q1192) rfl (by decide +kernel) (z_room (Nat.le_of_ble_eq_true rfl))) rfl rfl (Nat.le_of_ble_eq_true rfl) dX4_init_5 ⟨hcl, hsl⟩) hS (fun hp_3 nx_4 hw H locs hH hz hS => ?_)
  refine zr_aload_n (r := some h0) hx hb dX4_init_8 rfl (lv_at hl 0 rfl) ?_
  refine lv_iload_n hx hb dX4_init_9 rfl (lv_at hl 1 rfl) ?_
  obtain ⟨a_5, ci_6, fs_7, hp_8, er, he, hc, hA, hkl, eh, hw⟩ := zpt_e hw
  refine zw_putF hk hin hH hz hS er he hA hkl eh (ff_X4_7 hc) rfl rfl dX4_init_10 (fun H locs hH hz hS => ?_)
  obtain ⟨hkc, hks, hw⟩ := hw
  exact zr_vret hk hr hH hz hS hw hkc hks dX4_init_13
theorem cz_6_8 {ci : Nat} (h : ci ∈ [6, 8]) : ∃ (C : String) (T : u_T) (N : Nat), zcl[ci]? = some (C, T, N) := by
  simp only [List.mem_cons, List.not_mem_nil, or_false] at h
  rcases h with rfl | rfl <;> exact ⟨_, _, _, rfl⟩
def wp_X6_fits (l : Launch) (g : zG) (d : Nat) (h0 : Nat) (x1 : UInt64) (hp : zHp) (nx : Nat) (Post : UInt64 → zHp → Nat → Prop) : Prop :=
  (zo hp (some h0) [6, 8] fun a_4 ci_5 fs_6 => zMt l g yX2_fits cX2_fits 3 (some .double) d 0 0 (.ref a_4 :: [.double x1]) hp nx (zQd g fun x_3 hp_1 nx_2 =>
  (Post (FP.l2d (FP.d2l x_3)) hp_1 nx_2)))
set_option maxHeartbeats 40000000 in
theorem met_X6_fits {l : Launch} {g : zG} {d : Nat} {h0 : Nat} {x1 : UInt64} {hp : zHp} {nx : Nat} {Post : UInt64 → zHp → Nat → Prop} (hw : wp_X6_fits l g d h0 x1 hp nx Post) : zMt l g yX6_fits cX6_fits 3 (some .double) (d + 1) 0 0 [.ref h0, .double x1] hp nx (zQd g Post) := by
  refine z_start (by decide) (Nat.le_of_ble_eq_true rfl) ?_
  intro p e s m below meth c hk hr hin hH hz ls hl
  have hx := hk.1.1
  have hb := hk.1.2.1
  have hown := hk.1.2.2.2.1
  have hts := hk.1.2.2.2.2
  have hS : va_S (zAd g) s.heap s.heap [] := va_S.rf
  have hl : lv_has ls 3 [(0, va_rf (some h0)), (1, .double x1)] := hl
  unfold wp_X6_fits at hw
  refine zr_aload_n (r := some h0) hx hb dX6_fits_0 rfl (lv_at hl 0 rfl) ?_
  refine lv_dload_n hx hb dX6_fits_1 rfl (lv_at hl 1 rfl) ?_
  obtain ⟨a_4, ci_5, fs_6, er, he, hc, hw⟩ := zo_e hw
  obtain ⟨C_, T_, N_, hcl_⟩ := cz_6_8 hc
  refine zr_calld (zw_runSU (C := C_) (As := [.double x1]) hk hH hz hS hl.1 er hw (va_cwSU 1 hts (z_SU q2013 q1993 q2014 q1991 q152 q2022) rfl rfl rfl (by decide +kernel) (z_room (Nat.le_of_ble_eq_true rfl))) he hcl_ rfl rfl (Nat.le_of_ble_eq_true rfl) dX6_fits_2 ⟨Nat.le_of_ble_eq_true rfl, Nat.le_of_ble_eq_true rfl⟩) hS (fun x_3 hp_1 nx_2 hw H locs hH hz hS => ?_)
  refine lv_d2l hx hb dX6_fits_5 ?_
  refine lv_l2d hx hb dX6_fits_6 ?_
  exact zr_dret hk hr hH hz hS hw (Nat.le_of_ble_eq_true rfl) (Nat.le_of_ble_eq_true rfl) dX6_fits_7
def wp_X6_kind (l : Launch) (g : zG) (d : Nat) (h0 : Nat) (hp : zHp) (nx : Nat) (Post : Int32 → zHp → Nat → Prop) : Prop :=
  (Post (1 : Int32) hp nx)
set_option maxHeartbeats 40000000 in
theorem met_X6_kind {l : Launch} {g : zG} {d : Nat} {h0 : Nat} {hp : zHp} {nx : Nat} {Post : Int32 → zHp → Nat → Prop} (hw : wp_X6_kind l g d h0 hp nx Post) : zMt l g yX6_kind cX6_kind 1 (some .int) (d + 1) 0 0 [.ref h0] hp nx (zQi g Post) := by
  refine z_start (by decide) (Nat.le_of_ble_eq_true rfl) ?_
  intro p e s m below meth c hk hr hin hH hz ls hl
  have hx := hk.1.1
  have hb := hk.1.2.1
  have hown := hk.1.2.2.2.1
  have hts := hk.1.2.2.2.2
  have hS : va_S (zAd g) s.heap s.heap [] := va_S.rf
  have hl : lv_has ls 1 [(0, va_rf (some h0))] := hl
  unfold wp_X6_kind at hw
  refine lv_iconst (v := (1 : Int32)) hx hb dX6_kind_0 (by decide) ?_
  exact zr_iret hk hr hH hz hS hw (Nat.le_of_ble_eq_true rfl) (Nat.le_of_ble_eq_true rfl) dX6_kind_1
def wp_X6_init (l : Launch) (g : zG) (d : Nat) (h0 : Nat) (x1 : Int32) (hp : zHp) (nx : Nat) (Post : zHp → Nat → Prop) : Prop :=
  (zMt l g yX2_init cX2_init 2 none d 0 0 (.ref h0 :: [.int x1]) hp nx (zQv g fun hp_1 nx_2 =>
  (Post hp_1 nx_2)))
set_option maxHeartbeats 40000000 in
theorem met_X6_init {l : Launch} {g : zG} {d : Nat} {h0 : Nat} {x1 : Int32} {hp : zHp} {nx : Nat} {Post : zHp → Nat → Prop} (hw : wp_X6_init l g d h0 x1 hp nx Post) : zMt l g yX6_init cX6_init 2 none (d + 1) 0 0 [.ref h0, .int x1] hp nx (zQv g Post) := by
  refine z_start (by decide) (Nat.le_of_ble_eq_true rfl) ?_
  intro p e s m below meth c hk hr hin hH hz ls hl
  have hx := hk.1.1
  have hb := hk.1.2.1
  have hown := hk.1.2.2.2.1
  have hts := hk.1.2.2.2.2
  have hS : va_S (zAd g) s.heap s.heap [] := va_S.rf
  have hl : lv_has ls 2 [(0, va_rf (some h0)), (1, .int x1)] := hl
  unfold wp_X6_init at hw
  refine zr_aload_n (r := some h0) hx hb dX6_init_0 rfl (lv_at hl 0 rfl) ?_
  refine lv_iload_n hx hb dX6_init_1 rfl (lv_at hl 1 rfl) ?_
  refine zr_callv (zw_runI (As := [.int x1]) (r := some h0) hk hH hz hS hl.1 rfl hw (cwI 1 hts (lw_meth q653) rfl rfl rfl (hts _ q152) (hts _ q2059) (hts _ q652) rfl (by decide +kernel) (z_room (Nat.le_of_ble_eq_true rfl))) rfl rfl (Nat.le_of_ble_eq_true rfl) dX6_init_2 ⟨Nat.le_of_ble_eq_true rfl, Nat.le_of_ble_eq_true rfl⟩) hS (fun hp_1 nx_2 hw H locs hH hz hS => ?_)
  exact zr_vret hk hr hH hz hS hw (Nat.le_of_ble_eq_true rfl) (Nat.le_of_ble_eq_true rfl) dX6_init_5
theorem cz_7_9 {ci : Nat} (h : ci ∈ [7, 9]) : ∃ (C : String) (T : u_T) (N : Nat), zcl[ci]? = some (C, T, N) := by
  simp only [List.mem_cons, List.not_mem_nil, or_false] at h
  rcases h with rfl | rfl <;> exact ⟨_, _, _, rfl⟩
def wp_X7_fits (l : Launch) (g : zG) (d : Nat) (h0 : Nat) (x1 : UInt64) (hp : zHp) (nx : Nat) (Post : UInt64 → zHp → Nat → Prop) : Prop :=
  (zo hp (some h0) [7, 9] fun a_4 ci_5 fs_6 => zMt l g yX2_fits cX2_fits 3 (some .double) d 0 0 (.ref a_4 :: [.double x1]) hp nx (zQd g fun x_3 hp_1 nx_2 =>
  (vf_n32 (FP.d2f x_3) ∧ (vf_n64 (FP.f2d (FP.d2f x_3)) ∧ (Post (FP.f2d (FP.d2f x_3)) hp_1 nx_2)))))
set_option maxHeartbeats 40000000 in
theorem met_X7_fits {l : Launch} {g : zG} {d : Nat} {h0 : Nat} {x1 : UInt64} {hp : zHp} {nx : Nat} {Post : UInt64 → zHp → Nat → Prop} (hw : wp_X7_fits l g d h0 x1 hp nx Post) : zMt l g yX7_fits cX7_fits 3 (some .double) (d + 1) 0 0 [.ref h0, .double x1] hp nx (zQd g Post) := by
  refine z_start (by decide) (Nat.le_of_ble_eq_true rfl) ?_
  intro p e s m below meth c hk hr hin hH hz ls hl
  have hx := hk.1.1
  have hb := hk.1.2.1
  have hown := hk.1.2.2.2.1
  have hts := hk.1.2.2.2.2
  have hS : va_S (zAd g) s.heap s.heap [] := va_S.rf
  have hl : lv_has ls 3 [(0, va_rf (some h0)), (1, .double x1)] := hl
  unfold wp_X7_fits at hw
  refine zr_aload_n (r := some h0) hx hb dX7_fits_0 rfl (lv_at hl 0 rfl) ?_
  refine lv_dload_n hx hb dX7_fits_1 rfl (lv_at hl 1 rfl) ?_
  obtain ⟨a_4, ci_5, fs_6, er, he, hc, hw⟩ := zo_e hw
  obtain ⟨C_, T_, N_, hcl_⟩ := cz_7_9 hc
  refine zr_calld (zw_runSU (C := C_) (As := [.double x1]) hk hH hz hS hl.1 er hw (va_cwSU 1 hts (z_SU q2004 q1993 q2005 q1991 q152 q2022) rfl rfl rfl (by decide +kernel) (z_room (Nat.le_of_ble_eq_true rfl))) he hcl_ rfl rfl (Nat.le_of_ble_eq_true rfl) dX7_fits_2 ⟨Nat.le_of_ble_eq_true rfl, Nat.le_of_ble_eq_true rfl⟩) hS (fun x_3 hp_1 nx_2 hw H locs hH hz hS => ?_)
  obtain ⟨hne, hw⟩ := hw
  refine lv_d2f hx hb dX7_fits_5 hne ?_
  obtain ⟨hne, hw⟩ := hw
  refine lv_f2d hx hb dX7_fits_6 hne ?_
  exact zr_dret hk hr hH hz hS hw (Nat.le_of_ble_eq_true rfl) (Nat.le_of_ble_eq_true rfl) dX7_fits_7
def wp_X7_kind (l : Launch) (g : zG) (d : Nat) (h0 : Nat) (hp : zHp) (nx : Nat) (Post : Int32 → zHp → Nat → Prop) : Prop :=
  (Post (2 : Int32) hp nx)
set_option maxHeartbeats 40000000 in
theorem met_X7_kind {l : Launch} {g : zG} {d : Nat} {h0 : Nat} {hp : zHp} {nx : Nat} {Post : Int32 → zHp → Nat → Prop} (hw : wp_X7_kind l g d h0 hp nx Post) : zMt l g yX7_kind cX7_kind 1 (some .int) (d + 1) 0 0 [.ref h0] hp nx (zQi g Post) := by
  refine z_start (by decide) (Nat.le_of_ble_eq_true rfl) ?_
  intro p e s m below meth c hk hr hin hH hz ls hl
  have hx := hk.1.1
  have hb := hk.1.2.1
  have hown := hk.1.2.2.2.1
  have hts := hk.1.2.2.2.2
  have hS : va_S (zAd g) s.heap s.heap [] := va_S.rf
  have hl : lv_has ls 1 [(0, va_rf (some h0))] := hl
  unfold wp_X7_kind at hw
  refine lv_iconst (v := (2 : Int32)) hx hb dX7_kind_0 (by decide) ?_
  exact zr_iret hk hr hH hz hS hw (Nat.le_of_ble_eq_true rfl) (Nat.le_of_ble_eq_true rfl) dX7_kind_1
def wp_X7_init (l : Launch) (g : zG) (d : Nat) (h0 : Nat) (x1 : Int32) (hp : zHp) (nx : Nat) (Post : zHp → Nat → Prop) : Prop :=
  (zMt l g yX2_init cX2_init 2 none d 0 0 (.ref h0 :: [.int x1]) hp nx (zQv g fun hp_1 nx_2 =>
  (Post hp_1 nx_2)))
set_option maxHeartbeats 40000000 in
theorem met_X7_init {l : Launch} {g : zG} {d : Nat} {h0 : Nat} {x1 : Int32} {hp : zHp} {nx : Nat} {Post : zHp → Nat → Prop} (hw : wp_X7_init l g d h0 x1 hp nx Post) : zMt l g yX7_init cX7_init 2 none (d + 1) 0 0 [.ref h0, .int x1] hp nx (zQv g Post) := by
  refine z_start (by decide) (Nat.le_of_ble_eq_true rfl) ?_
  intro p e s m below meth c hk hr hin hH hz ls hl
  have hx := hk.1.1
  have hb := hk.1.2.1
  have hown := hk.1.2.2.2.1
  have hts := hk.1.2.2.2.2
  have hS : va_S (zAd g) s.heap s.heap [] := va_S.rf
  have hl : lv_has ls 2 [(0, va_rf (some h0)), (1, .int x1)] := hl
  unfold wp_X7_init at hw
  refine zr_aload_n (r := some h0) hx hb dX7_init_0 rfl (lv_at hl 0 rfl) ?_
  refine lv_iload_n hx hb dX7_init_1 rfl (lv_at hl 1 rfl) ?_
  refine zr_callv (zw_runI (As := [.int x1]) (r := some h0) hk hH hz hS hl.1 rfl hw (cwI 1 hts (lw_meth q653) rfl rfl rfl (hts _ q152) (hts _ q2068) (hts _ q652) rfl (by decide +kernel) (z_room (Nat.le_of_ble_eq_true rfl))) rfl rfl (Nat.le_of_ble_eq_true rfl) dX7_init_2 ⟨Nat.le_of_ble_eq_true rfl, Nat.le_of_ble_eq_true rfl⟩) hS (fun hp_1 nx_2 hw H locs hH hz hS => ?_)
  exact zr_vret hk hr hH hz hS hw (Nat.le_of_ble_eq_true rfl) (Nat.le_of_ble_eq_true rfl) dX7_init_5
theorem cz_8 {ci : Nat} (h : ci ∈ [8]) : ∃ (C : String) (T : u_T) (N : Nat), zcl[ci]? = some (C, T, N) := by
  simp only [List.mem_cons, List.not_mem_nil, or_false] at h
  rcases h with rfl <;> exact ⟨_, _, _, rfl⟩
def wp_X8_fits (l : Launch) (g : zG) (d : Nat) (h0 : Nat) (x1 : UInt64) (hp : zHp) (nx : Nat) (Post : UInt64 → zHp → Nat → Prop) : Prop :=
  (zo hp (some h0) [8] fun a_4 ci_5 fs_6 => zMt l g yX6_fits cX6_fits 3 (some .double) d 0 0 (.ref a_4 :: [.double x1]) hp nx (zQd g fun x_3 hp_1 nx_2 =>
  (Post (FP.i2d (((FP.d2l x_3).toInt32).toInt8.toInt32)) hp_1 nx_2)))
set_option maxHeartbeats 40000000 in
theorem met_X8_fits {l : Launch} {g : zG} {d : Nat} {h0 : Nat} {x1 : UInt64} {hp : zHp} {nx : Nat} {Post : UInt64 → zHp → Nat → Prop} (hw : wp_X8_fits l g d h0 x1 hp nx Post) : zMt l g yX8_fits cX8_fits 3 (some .double) (d + 1) 0 0 [.ref h0, .double x1] hp nx (zQd g Post) := by
  refine z_start (by decide) (Nat.le_of_ble_eq_true rfl) ?_
  intro p e s m below meth c hk hr hin hH hz ls hl
  have hx := hk.1.1
  have hb := hk.1.2.1
  have hown := hk.1.2.2.2.1
  have hts := hk.1.2.2.2.2
  have hS : va_S (zAd g) s.heap s.heap [] := va_S.rf
  have hl : lv_has ls 3 [(0, va_rf (some h0)), (1, .double x1)] := hl
  unfold wp_X8_fits at hw
  refine zr_aload_n (r := some h0) hx hb dX8_fits_0 rfl (lv_at hl 0 rfl) ?_
  refine lv_dload_n hx hb dX8_fits_1 rfl (lv_at hl 1 rfl) ?_
  obtain ⟨a_4, ci_5, fs_6, er, he, hc, hw⟩ := zo_e hw
  obtain ⟨C_, T_, N_, hcl_⟩ := cz_8 hc
  refine zr_calld (zw_runSU (C := C_) (As := [.double x1]) hk hH hz hS hl.1 er hw (va_cwSU 1 hts (z_SU q2009 q3362 q2010 q2011 q163 q2012) rfl rfl rfl (by decide +kernel) (z_room (Nat.le_of_ble_eq_true rfl))) he hcl_ rfl rfl (Nat.le_of_ble_eq_true rfl) dX8_fits_2 ⟨Nat.le_of_ble_eq_true rfl, Nat.le_of_ble_eq_true rfl⟩) hS (fun x_3 hp_1 nx_2 hw H locs hH hz hS => ?_)
  refine lv_d2l hx hb dX8_fits_5 ?_
  refine lv_l2i hx hb dX8_fits_6 rfl ?_
  refine lv_i2b hx hb dX8_fits_7 rfl ?_
  refine lv_i2d hx hb dX8_fits_8 ?_
  exact zr_dret hk hr hH hz hS hw (Nat.le_of_ble_eq_true rfl) (Nat.le_of_ble_eq_true rfl) dX8_fits_9
def wp_X8_kind (l : Launch) (g : zG) (d : Nat) (h0 : Nat) (hp : zHp) (nx : Nat) (Post : Int32 → zHp → Nat → Prop) : Prop :=
  (Post (3 : Int32) hp nx)
set_option maxHeartbeats 40000000 in
theorem met_X8_kind {l : Launch} {g : zG} {d : Nat} {h0 : Nat} {hp : zHp} {nx : Nat} {Post : Int32 → zHp → Nat → Prop} (hw : wp_X8_kind l g d h0 hp nx Post) : zMt l g yX8_kind cX8_kind 1 (some .int) (d + 1) 0 0 [.ref h0] hp nx (zQi g Post) := by
  refine z_start (by decide) (Nat.le_of_ble_eq_true rfl) ?_
  intro p e s m below meth c hk hr hin hH hz ls hl
  have hx := hk.1.1
  have hb := hk.1.2.1
  have hown := hk.1.2.2.2.1
  have hts := hk.1.2.2.2.2
  have hS : va_S (zAd g) s.heap s.heap [] := va_S.rf
  have hl : lv_has ls 1 [(0, va_rf (some h0))] := hl
  unfold wp_X8_kind at hw
  refine lv_iconst (v := (3 : Int32)) hx hb dX8_kind_0 (by decide) ?_
  exact zr_iret hk hr hH hz hS hw (Nat.le_of_ble_eq_true rfl) (Nat.le_of_ble_eq_true rfl) dX8_kind_1
def wp_X8_init (l : Launch) (g : zG) (d : Nat) (h0 : Nat) (x1 : Int32) (hp : zHp) (nx : Nat) (Post : zHp → Nat → Prop) : Prop :=
  (zMt l g yX6_init cX6_init 2 none d 0 0 (.ref h0 :: [.int x1]) hp nx (zQv g fun hp_1 nx_2 =>
  (Post hp_1 nx_2)))
set_option maxHeartbeats 40000000 in
theorem met_X8_init {l : Launch} {g : zG} {d : Nat} {h0 : Nat} {x1 : Int32} {hp : zHp} {nx : Nat} {Post : zHp → Nat → Prop} (hw : wp_X8_init l g d h0 x1 hp nx Post) : zMt l g yX8_init cX8_init 2 none (d + 1) 0 0 [.ref h0, .int x1] hp nx (zQv g Post) := by
  refine z_start (by decide) (Nat.le_of_ble_eq_true rfl) ?_
  intro p e s m below meth c hk hr hin hH hz ls hl
  have hx := hk.1.1
  have hb := hk.1.2.1
  have hown := hk.1.2.2.2.1
  have hts := hk.1.2.2.2.2
  have hS : va_S (zAd g) s.heap s.heap [] := va_S.rf
  have hl : lv_has ls 2 [(0, va_rf (some h0)), (1, .int x1)] := hl
  unfold wp_X8_init at hw
  refine zr_aload_n (r := some h0) hx hb dX8_init_0 rfl (lv_at hl 0 rfl) ?_
  refine lv_iload_n hx hb dX8_init_1 rfl (lv_at hl 1 rfl) ?_
  refine zr_callv (zw_runI (As := [.int x1]) (r := some h0) hk hH hz hS hl.1 rfl hw (cwI 1 hts (lw_meth q2058) rfl rfl rfl (hts _ q163) (hts _ q2077) (hts _ q2057) rfl (by decide +kernel) (z_room (Nat.le_of_ble_eq_true rfl))) rfl rfl (Nat.le_of_ble_eq_true rfl) dX8_init_2 ⟨Nat.le_of_ble_eq_true rfl, Nat.le_of_ble_eq_true rfl⟩) hS (fun hp_1 nx_2 hw H locs hH hz hS => ?_)
  exact zr_vret hk hr hH hz hS hw (Nat.le_of_ble_eq_true rfl) (Nat.le_of_ble_eq_true rfl) dX8_init_5
theorem cz_9 {ci : Nat} (h : ci ∈ [9]) : ∃ (C : String) (T : u_T) (N : Nat), zcl[ci]? = some (C, T, N) := by
  simp only [List.mem_cons, List.not_mem_nil, or_false] at h
  rcases h with rfl <;> exact ⟨_, _, _, rfl⟩
def wp_X9_fits (l : Launch) (g : zG) (d : Nat) (h0 : Nat) (x1 : UInt64) (hp : zHp) (nx : Nat) (Post : UInt64 → zHp → Nat → Prop) : Prop :=
  (zo hp (some h0) [9] fun a_4 ci_5 fs_6 => zMt l g yX7_fits cX7_fits 3 (some .double) d 0 0 (.ref a_4 :: [.double x1]) hp nx (zQd g fun x_3 hp_1 nx_2 =>
  (vf_n32 (FP.d2f x_3) ∧ (vf_n32 (FP.frem (FP.d2f x_3) (1135869952 : UInt32)) ∧ (vf_n64 (FP.f2d (FP.frem (FP.d2f x_3) (1135869952 : UInt32))) ∧ (Post (FP.f2d (FP.frem (FP.d2f x_3) (1135869952 : UInt32))) hp_1 nx_2))))))
set_option maxHeartbeats 40000000 in
theorem met_X9_fits {l : Launch} {g : zG} {d : Nat} {h0 : Nat} {x1 : UInt64} {hp : zHp} {nx : Nat} {Post : UInt64 → zHp → Nat → Prop} (hw : wp_X9_fits l g d h0 x1 hp nx Post) : zMt l g yX9_fits cX9_fits 3 (some .double) (d + 1) 0 0 [.ref h0, .double x1] hp nx (zQd g Post) := by
  refine z_start (by decide) (Nat.le_of_ble_eq_true rfl) ?_
  intro p e s m below meth c hk hr hin hH hz ls hl
  have hx := hk.1.1
  have hb := hk.1.2.1
  have hown := hk.1.2.2.2.1
  have hts := hk.1.2.2.2.2
  have hS : va_S (zAd g) s.heap s.heap [] := va_S.rf
  have hl : lv_has ls 3 [(0, va_rf (some h0)), (1, .double x1)] := hl
  unfold wp_X9_fits at hw
  refine zr_aload_n (r := some h0) hx hb dX9_fits_0 rfl (lv_at hl 0 rfl) ?_
  refine lv_dload_n hx hb dX9_fits_1 rfl (lv_at hl 1 rfl) ?_
  obtain ⟨a_4, ci_5, fs_6, er, he, hc, hw⟩ := zo_e hw
  obtain ⟨C_, T_, N_, hcl_⟩ := cz_9 hc
  refine zr_calld (zw_runSU (C := C_) (As := [.double x1]) hk hH hz hS hl.1 er hw (va_cwSU 1 hts (z_SU q2018 q3363 q2019 q2002 q164 q2003) rfl rfl rfl (by decide +kernel) (z_room (Nat.le_of_ble_eq_true rfl))) he hcl_ rfl rfl (Nat.le_of_ble_eq_true rfl) dX9_fits_2 ⟨Nat.le_of_ble_eq_true rfl, Nat.le_of_ble_eq_true rfl⟩) hS (fun x_3 hp_1 nx_2 hw H locs hH hz hS => ?_)
  obtain ⟨hne, hw⟩ := hw
  refine lv_d2f hx hb dX9_fits_5 hne ?_
  refine lv_ldcf hx hb hown (hts _ q2020) dX9_fits_6 ?_
  obtain ⟨hne, hw⟩ := hw
  refine lv_frem hx hb dX9_fits_8 hne ?_
  obtain ⟨hne, hw⟩ := hw
  refine lv_f2d hx hb dX9_fits_9 hne ?_
  exact zr_dret hk hr hH hz hS hw (Nat.le_of_ble_eq_true rfl) (Nat.le_of_ble_eq_true rfl) dX9_fits_10
def wp_X9_kind (l : Launch) (g : zG) (d : Nat) (h0 : Nat) (hp : zHp) (nx : Nat) (Post : Int32 → zHp → Nat → Prop) : Prop :=
  (Post (4 : Int32) hp nx)
set_option maxHeartbeats 40000000 in
theorem met_X9_kind {l : Launch} {g : zG} {d : Nat} {h0 : Nat} {hp : zHp} {nx : Nat} {Post : Int32 → zHp → Nat → Prop} (hw : wp_X9_kind l g d h0 hp nx Post) : zMt l g yX9_kind cX9_kind 1 (some .int) (d + 1) 0 0 [.ref h0] hp nx (zQi g Post) := by
  refine z_start (by decide) (Nat.le_of_ble_eq_true rfl) ?_
  intro p e s m below meth c hk hr hin hH hz ls hl
  have hx := hk.1.1
  have hb := hk.1.2.1
  have hown := hk.1.2.2.2.1
  have hts := hk.1.2.2.2.2
  have hS : va_S (zAd g) s.heap s.heap [] := va_S.rf
  have hl : lv_has ls 1 [(0, va_rf (some h0))] := hl
  unfold wp_X9_kind at hw
  refine lv_iconst (v := (4 : Int32)) hx hb dX9_kind_0 (by decide) ?_
  exact zr_iret hk hr hH hz hS hw (Nat.le_of_ble_eq_true rfl) (Nat.le_of_ble_eq_true rfl) dX9_kind_1
def wp_X9_init (l : Launch) (g : zG) (d : Nat) (h0 : Nat) (x1 : Int32) (hp : zHp) (nx : Nat) (Post : zHp → Nat → Prop) : Prop :=
  (zMt l g yX7_init cX7_init 2 none d 0 0 (.ref h0 :: [.int x1]) hp nx (zQv g fun hp_1 nx_2 =>
  (Post hp_1 nx_2)))
set_option maxHeartbeats 40000000 in
theorem met_X9_init {l : Launch} {g : zG} {d : Nat} {h0 : Nat} {x1 : Int32} {hp : zHp} {nx : Nat} {Post : zHp → Nat → Prop} (hw : wp_X9_init l g d h0 x1 hp nx Post) : zMt l g yX9_init cX9_init 2 none (d + 1) 0 0 [.ref h0, .int x1] hp nx (zQv g Post) := by
  refine z_start (by decide) (Nat.le_of_ble_eq_true rfl) ?_
  intro p e s m below meth c hk hr hin hH hz ls hl
  have hx := hk.1.1
  have hb := hk.1.2.1
  have hown := hk.1.2.2.2.1
  have hts := hk.1.2.2.2.2
  have hS : va_S (zAd g) s.heap s.heap [] := va_S.rf
  have hl : lv_has ls 2 [(0, va_rf (some h0)), (1, .int x1)] := hl
  unfold wp_X9_init at hw
  refine zr_aload_n (r := some h0) hx hb dX9_init_0 rfl (lv_at hl 0 rfl) ?_
  refine lv_iload_n hx hb dX9_init_1 rfl (lv_at hl 1 rfl) ?_
  refine zr_callv (zw_runI (As := [.int x1]) (r := some h0) hk hH hz hS hl.1 rfl hw (cwI 1 hts (lw_meth q2067) rfl rfl rfl (hts _ q164) (hts _ q2086) (hts _ q2066) rfl (by decide +kernel) (z_room (Nat.le_of_ble_eq_true rfl))) rfl rfl (Nat.le_of_ble_eq_true rfl) dX9_init_2 ⟨Nat.le_of_ble_eq_true rfl, Nat.le_of_ble_eq_true rfl⟩) hS (fun hp_1 nx_2 hw H locs hH hz hS => ?_)
  exact zr_vret hk hr hH hz hS hw (Nat.le_of_ble_eq_true rfl) (Nat.le_of_ble_eq_true rfl) dX9_init_5
