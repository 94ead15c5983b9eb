set_option maxRecDepth 100000
theorem fk_X5_17 {ci : Nat} (h : ci ∈ [5]) : zFk "WhatIfSheetModel" 17 ci 2 := by
  simp only [List.mem_cons, List.not_mem_nil, or_false] at h
  rcases h with rfl
  · exact ⟨RX5, TX5, 76, rfl, by decide, q2676⟩
theorem fk_X5_9 {ci : Nat} (h : ci ∈ [5]) : zFk "WhatIfSheetModel" 9 ci 0 := by
  simp only [List.mem_cons, List.not_mem_nil, or_false] at h
  rcases h with rfl
  · exact ⟨RX5, TX5, 76, rfl, by decide, q2674⟩
theorem fk_X5_13 {ci : Nat} (h : ci ∈ [5]) : zFk "WhatIfSheetModel" 13 ci 1 := by
  simp only [List.mem_cons, List.not_mem_nil, or_false] at h
  rcases h with rfl
  · exact ⟨RX5, TX5, 76, rfl, by decide, q2675⟩
def wp_X5_set (l : Launch) (g : zG) (d : Nat) (h0 : Nat) (x1 : Int32) (x2 : Int32) (hp : zHp) (nx : Nat) (Post : Int32 → zHp → Nat → Prop) : Prop :=
  (zMt l g yX5_isCell cX5_isCell 1 (some .boolean) d 0 0 [.int x1] hp nx (zQi g fun x_3 hp_1 nx_2 =>
  (∃ P_14 : zHp → Nat → Prop, (∀ (hp_4 : zHp) (nx_5 : Nat), P_14 hp_4 nx_5 →
  (Post (-2 : Int32) hp_4 nx_5)) ∧
  ((x_3 = 0 →
  P_14 hp_1 nx_2) ∧
  (¬ x_3 = 0 →
  (zMt l g yX5_isEighths cX5_isEighths 1 (some .boolean) d 0 0 [.int x2] hp_1 nx_2 (zQi g fun x_8 hp_6 nx_7 =>
  ((x_8 = 0 →
  P_14 hp_6 nx_7) ∧
  (¬ x_8 = 0 →
  (zo hp_6 (some h0) [5] fun a_39 ci_40 fs_41 => zMt l g yX5_isInput cX5_isInput 2 (some .boolean) d 0 0 (.ref a_39 :: [.int x1]) hp_6 nx_7 (zQi g fun x_11 hp_9 nx_10 =>
  ((x_11 = 0 →
  (Post (-3 : Int32) hp_9 nx_10)) ∧
  (¬ x_11 = 0 →
  (zgR hp_9 (some h0) [5] 2 fun r_15 =>
  (zgR hp_9 (some h0) [5] 0 fun r_19 =>
  (zaI (g.2.1 0) hp_9 r_19 fun a_20 n_21 f_22 => vp_in x1 n_21 ∧ ∀ x_23 : Int32, x_23 = f_22 x1.toNatClampNeg →
  (vf_n64 (FP.ddiv (FP.i2d x2) (4620693217682128896 : UInt64)) ∧ (zMt l g yX5_kept cX5_kept 3 (some .double) d 0 0 [.int x_23, .double (FP.ddiv (FP.i2d x2) (4620693217682128896 : UInt64))] hp_9 nx_10 (zQd g fun x_26 hp_24 nx_25 =>
  (zaD (g.2.1 1) hp_24 r_15 fun a_27 n_28 f_29 => vp_in x1 n_28 ∧ zB g ≤ a_27 ∧ ∀ hp_30 : zHp, hp_30 = va_up hp_24 a_27 (some (.inl (g.2.1 1, n_28, .inr (.inr (.inr (.inl (va_up f_29 x1.toNatClampNeg x_26))))))) →
  (zgR hp_30 (some h0) [5] 1 fun r_34 =>
  (zaI (g.2.1 3) hp_30 r_34 fun a_35 n_36 f_37 => vp_in x1 n_36 ∧ zB g ≤ a_35 ∧ ∀ hp_38 : zHp, hp_38 = va_up hp_30 a_35 (some (.inl (g.2.1 3, n_36, .inl (va_up f_37 x1.toNatClampNeg (vp_nar .boolean (1 : Int32)))))) →
  (Post (1 : Int32) hp_38 nx_25)))))))))))))))))))))))
set_option maxHeartbeats 40000000 in
theorem met_X5_set {l : Launch} {g : zG} {d : Nat} {h0 : Nat} {x1 : Int32} {x2 : Int32} {hp : zHp} {nx : Nat} {Post : Int32 → zHp → Nat → Prop} (hw : wp_X5_set l g d h0 x1 x2 hp nx Post) : zMt l g yX5_set cX5_set 3 (some .int) (d + 1) 0 0 [.ref h0, .int x1, .int x2] hp nx (zQi g Post) := by
  refine z_start (by decide) (Nat.le_of_ble_eq_true rfl) ?_
  intro p e s m below meth c hk hr hin hH hz ls hl
  have hx := hk.1.1
  have hb := hk.1.2.1
  have hown := hk.1.2.2.2.1
  have hts := hk.1.2.2.2.2
  have hS : va_S (zAd g) s.heap s.heap [] := va_S.rf
  have hl : lv_has ls 3 [(0, va_rf (some h0)), (1, .int x1), (2, .int x2)] := hl
  unfold wp_X5_set at hw
  refine lv_iload_n hx hb dX5_set_0 rfl (lv_at hl 1 rfl) ?_
  refine zr_calli (zr_runS (As := [.int x1]) hk hH hz hS hl.1 hw (va_cwS 1 hts (lw_S q2908 q2909 q162 q2910) rfl rfl rfl (by decide +kernel) (z_room (Nat.le_of_ble_eq_true rfl))) rfl rfl (Nat.le_of_ble_eq_true rfl) dX5_set_1 ⟨Nat.le_of_ble_eq_true rfl, Nat.le_of_ble_eq_true rfl⟩) hS (fun x_3 hp_1 nx_2 hw H locs hH hz hS => ?_)
  obtain ⟨P_14, hP_14, hw⟩ := hw
  have hJ_14 : ∀ (hp_4 : zHp) (nx_5 : Nat) (H : Heap) (locs : List Loc) (ls : Array Slot), P_14 hp_4 nx_5 → lv_has ls 3 [(0, va_rf (some h0)), (1, .int x1), (2, .int x2)] → zHd g hp_4 H → H.size = nx_5 → va_S (zAd g) s.heap H locs → W p l e (zrm (d + 1) 0 0) s m ([.ref h0, .int x1, .int x2] : List Value).toArray below meth c H locs 0 0 (MQ below (zQi g Post) ([.ref h0, .int x1, .int x2] : List Value).toArray s 0 0 (zAd g)) (F0 m 14 ls []) := by
    intro hp_4 nx_5 H locs ls hw hl hH hz hS
    have hw := hP_14 hp_4 nx_5 hw
    refine lv_bipush (v := (-2 : Int32)) hx hb dX5_set_14 (by decide) ?_
    exact zr_iret hk hr hH hz hS hw (Nat.le_of_ble_eq_true rfl) (Nat.le_of_ble_eq_true rfl) dX5_set_16
  refine lv_if_eq (tgt := 14) hx hb dX5_set_4 (by decide) (fun hc => ?_) (fun hc => ?_)
  · have hw := hw.1 hc
    exact hJ_14 hp_1 nx_2 _ _ _ hw hl hH hz hS
  · have hw := hw.2 hc
    refine lv_iload_n hx hb dX5_set_7 rfl (lv_at hl 2 rfl) ?_
    refine zr_calli (zr_runS (As := [.int x2]) hk hH hz hS hl.1 hw (va_cwS 1 hts (lw_S q2914 q2915 q162 q2916) rfl rfl rfl (by decide +kernel) (z_room (Nat.le_of_ble_eq_true rfl))) rfl rfl (Nat.le_of_ble_eq_true rfl) dX5_set_8 ⟨Nat.le_of_ble_eq_true rfl, Nat.le_of_ble_eq_true rfl⟩) hS (fun x_8 hp_6 nx_7 hw H locs hH hz hS => ?_)
    refine lv_if_ne (tgt := 17) hx hb dX5_set_11 (by decide) (fun hc => ?_) (fun hc => ?_)
    · have hw := hw.2 hc
      refine zr_aload_n (r := some h0) hx hb dX5_set_17 rfl (lv_at hl 0 rfl) ?_
      refine lv_iload_n hx hb dX5_set_18 rfl (lv_at hl 1 rfl) ?_
      obtain ⟨a_39, ci_40, fs_41, er, he, hc, hw⟩ := zo_e hw
      obtain rfl := List.mem_singleton.mp hc
      refine zr_calli (zw_runV (As := [.int x1]) hk hH hz hS hl.1 er hw (cwV 1 hts (lw_V q2919 q2921 qs69 q162 q2922) rfl rfl rfl (by decide +kernel) (z_room (Nat.le_of_ble_eq_true rfl))) he rfl rfl rfl (Nat.le_of_ble_eq_true rfl) dX5_set_19 ⟨Nat.le_of_ble_eq_true rfl, Nat.le_of_ble_eq_true rfl⟩) hS (fun x_11 hp_9 nx_10 hw H locs hH hz hS => ?_)
      refine lv_if_ne (tgt := 28) hx hb dX5_set_22 (by decide) (fun hc => ?_) (fun hc => ?_)
      · have hw := hw.2 hc
        refine zr_aload_n (r := some h0) hx hb dX5_set_28 rfl (lv_at hl 0 rfl) ?_
        obtain ⟨a_12, ci_13, fs_14, r_15, er, he, hc, hv, hw⟩ := zgR_e hw
        refine zw_get hk hH er he hv (fk_X5_17 hc) dX5_set_29 ?_
        refine lv_iload_n hx hb dX5_set_32 rfl (lv_at hl 1 rfl) ?_
        refine zr_aload_n (r := some h0) hx hb dX5_set_33 rfl (lv_at hl 0 rfl) ?_
        obtain ⟨a_16, ci_17, fs_18, r_19, er, he, hc, hv, hw⟩ := zgR_e hw
        refine zw_get hk hH er he hv (fk_X5_9 hc) dX5_set_34 ?_
        refine lv_iload_n hx hb dX5_set_37 rfl (lv_at hl 1 rfl) ?_
        obtain ⟨a_20, n_21, f_22, er, he, hi, hw⟩ := zaI_e hw
        have hw := hw _ rfl
        refine zw_iald hk hH er he hi dX5_set_38 ?_
        generalize f_22 x1.toNatClampNeg = x_23 at hw ⊢
        refine lv_iload_n hx hb dX5_set_39 rfl (lv_at hl 2 rfl) ?_
        refine lv_i2d hx hb dX5_set_40 ?_
        refine lv_ldc2d hx hb hown (hts _ q2923) dX5_set_41 ?_
        obtain ⟨hne, hw⟩ := hw
        refine lv_ddiv hx hb dX5_set_44 hne ?_
        refine zr_calld (zr_runS (As := [.int x_23, .double (FP.ddiv (FP.i2d x2) (4620693217682128896 : UInt64))]) hk hH hz hS hl.1 hw (va_cwS 2 hts (lw_S q2924 q2925 q162 q2926) rfl rfl rfl (by decide +kernel) (z_room (Nat.le_of_ble_eq_true rfl))) rfl rfl (by simp only [List.map_cons, List.map_nil, z_cat]; exact Nat.le_of_ble_eq_true rfl) dX5_set_45 ⟨Nat.le_of_ble_eq_true rfl, Nat.le_of_ble_eq_true rfl⟩) hS (fun x_26 hp_24 nx_25 hw H locs hH hz hS => ?_)
        obtain ⟨a_27, n_28, f_29, er, he, hi, hA, hw⟩ := zaD_e hw
        obtain ⟨hp_30, eh⟩ : ∃ y : zHp, y = va_up hp_24 a_27 (some (.inl (g.2.1 1, n_28, .inr (.inr (.inr (.inl (va_up f_29 x1.toNatClampNeg x_26))))))) := ⟨_, rfl⟩
        have hw := hw hp_30 eh
        refine zw_dast hk hH hz hS er he hi hA eh dX5_set_48 (fun H locs hH hz hS => ?_)
        refine zr_aload_n (r := some h0) hx hb dX5_set_49 rfl (lv_at hl 0 rfl) ?_
        obtain ⟨a_31, ci_32, fs_33, r_34, er, he, hc, hv, hw⟩ := zgR_e hw
        refine zw_get hk hH er he hv (fk_X5_13 hc) dX5_set_50 ?_
        refine lv_iload_n hx hb dX5_set_53 rfl (lv_at hl 1 rfl) ?_
        refine lv_iconst (v := (1 : Int32)) hx hb dX5_set_54 (by decide) ?_
        obtain ⟨a_35, n_36, f_37, er, he, hi, hA, hw⟩ := zaI_e hw
        obtain ⟨hp_38, eh⟩ : ∃ y : zHp, y = va_up hp_30 a_35 (some (.inl (g.2.1 3, n_36, .inl (va_up f_37 x1.toNatClampNeg (vp_nar .boolean (1 : Int32)))))) := ⟨_, rfl⟩
        have hw := hw hp_38 eh
        refine zw_zast hk hH hz hS er he hi hA eh dX5_set_55 (fun H locs hH hz hS => ?_)
        refine lv_iconst (v := (1 : Int32)) hx hb dX5_set_56 (by decide) ?_
        exact zr_iret hk hr hH hz hS hw (Nat.le_of_ble_eq_true rfl) (Nat.le_of_ble_eq_true rfl) dX5_set_57
      · have hw := hw.1 hc
        refine lv_bipush (v := (-3 : Int32)) hx hb dX5_set_25 (by decide) ?_
        exact zr_iret hk hr hH hz hS hw (Nat.le_of_ble_eq_true rfl) (Nat.le_of_ble_eq_true rfl) dX5_set_27
    · have hw := hw.1 hc
      exact hJ_14 hp_6 nx_7 _ _ _ hw hl hH hz hS
def wp_X5_isCell (l : Launch) (g : zG) (d : Nat) (x0 : Int32) (hp : zHp) (nx : Nat) (Post : Int32 → zHp → Nat → Prop) : Prop :=
  (zMt l g yX5_in cX5_in 3 (some .boolean) d 0 0 [.int x0, .int (0 : Int32), .int (23 : Int32)] hp nx (zQi g fun x_3 hp_1 nx_2 =>
  (((x_3 = 0 ∨ x_3 = 1) ∧ Post x_3 hp_1 nx_2))))
set_option maxHeartbeats 40000000 in
theorem met_X5_isCell {l : Launch} {g : zG} {d : Nat} {x0 : Int32} {hp : zHp} {nx : Nat} {Post : Int32 → zHp → Nat → Prop} (hw : wp_X5_isCell l g d x0 hp nx Post) : zMt l g yX5_isCell cX5_isCell 1 (some .boolean) (d + 1) 0 0 [.int x0] hp nx (zQi g Post) := by
  refine z_start (by decide) (Nat.le_of_ble_eq_true rfl) ?_
  intro p e s m below meth c hk hr hin hH hz ls hl
  have hx := hk.1.1
  have hb := hk.1.2.1
  have hown := hk.1.2.2.2.1
  have hts := hk.1.2.2.2.2
  have hS : va_S (zAd g) s.heap s.heap [] := va_S.rf
  have hl : lv_has ls 1 [(0, .int x0)] := hl
  unfold wp_X5_isCell at hw
  refine lv_iload_n hx hb dX5_isCell_0 rfl (lv_at hl 0 rfl) ?_
  refine lv_iconst (v := (0 : Int32)) hx hb dX5_isCell_1 (by decide) ?_
  refine lv_bipush (v := (23 : Int32)) hx hb dX5_isCell_2 (by decide) ?_
  refine zr_calli (zr_runS (As := [.int x0, .int (0 : Int32), .int (23 : Int32)]) hk hH hz hS hl.1 hw (va_cwS 3 hts (lw_S q2911 q2912 q162 q2913) rfl rfl rfl (by decide +kernel) (z_room (Nat.le_of_ble_eq_true rfl))) rfl rfl (Nat.le_of_ble_eq_true rfl) dX5_isCell_4 ⟨Nat.le_of_ble_eq_true rfl, Nat.le_of_ble_eq_true rfl⟩) hS (fun x_3 hp_1 nx_2 hw H locs hH hz hS => ?_)
  exact zr_zret hk hr hH hz hS hw.1 hw.2 (Nat.le_of_ble_eq_true rfl) (Nat.le_of_ble_eq_true rfl) dX5_isCell_7
def wp_X5_in (l : Launch) (g : zG) (d : Nat) (x0 : Int32) (x1 : Int32) (x2 : Int32) (hp : zHp) (nx : Nat) (Post : Int32 → zHp → Nat → Prop) : Prop :=
  (∃ P_15 : Int32 → Prop, (∀ (x_1 : Int32), P_15 x_1 →
  (((x_1 = 0 ∨ x_1 = 1) ∧ Post x_1 hp nx))) ∧
  (∃ P_14 : Prop, (P_14 →
  P_15 (0 : Int32)) ∧
  ((x0 < x1 →
  P_14) ∧
  (¬ x0 < x1 →
  ((x2 < x0 →
  P_14) ∧
  (¬ x2 < x0 →
  P_15 (1 : Int32)))))))
set_option maxHeartbeats 40000000 in
theorem met_X5_in {l : Launch} {g : zG} {d : Nat} {x0 : Int32} {x1 : Int32} {x2 : Int32} {hp : zHp} {nx : Nat} {Post : Int32 → zHp → Nat → Prop} (hw : wp_X5_in l g d x0 x1 x2 hp nx Post) : zMt l g yX5_in cX5_in 3 (some .boolean) (d + 1) 0 0 [.int x0, .int x1, .int x2] hp nx (zQi g Post) := by
  refine z_start (by decide) (Nat.le_of_ble_eq_true rfl) ?_
  intro p e s m below meth c hk hr hin hH hz ls hl
  have hx := hk.1.1
  have hb := hk.1.2.1
  have hown := hk.1.2.2.2.1
  have hts := hk.1.2.2.2.2
  have hS : va_S (zAd g) s.heap s.heap [] := va_S.rf
  have hl : lv_has ls 3 [(0, .int x0), (1, .int x1), (2, .int x2)] := hl
  unfold wp_X5_in at hw
  refine lv_iload_n hx hb dX5_in_0 rfl (lv_at hl 0 rfl) ?_
  refine lv_iload_n hx hb dX5_in_1 rfl (lv_at hl 1 rfl) ?_
  obtain ⟨P_15, hP_15, hw⟩ := hw
  have hJ_15 : ∀ (x_1 : Int32) (H : Heap) (locs : List Loc) (ls : Array Slot), P_15 x_1 → lv_has ls 3 [(0, .int x0), (1, .int x1), (2, .int x2)] → zHd g hp H → H.size = nx → va_S (zAd g) s.heap H locs → W p l e (zrm (d + 1) 0 0) s m ([.int x0, .int x1, .int x2] : List Value).toArray below meth c H locs 0 0 (MQ below (zQi g Post) ([.int x0, .int x1, .int x2] : List Value).toArray s 0 0 (zAd g)) (F0 m 15 ls [.int x_1]) := by
    intro x_1 H locs ls hw hl hH hz hS
    have hw := hP_15 x_1 hw
    exact zr_zret hk hr hH hz hS hw.1 hw.2 (Nat.le_of_ble_eq_true rfl) (Nat.le_of_ble_eq_true rfl) dX5_in_15
  obtain ⟨P_14, hP_14, hw⟩ := hw
  have hJ_14 : ∀  (H : Heap) (locs : List Loc) (ls : Array Slot), P_14  → lv_has ls 3 [(0, .int x0), (1, .int x1), (2, .int x2)] → zHd g hp H → H.size = nx → va_S (zAd g) s.heap H locs → W p l e (zrm (d + 1) 0 0) s m ([.int x0, .int x1, .int x2] : List Value).toArray below meth c H locs 0 0 (MQ below (zQi g Post) ([.int x0, .int x1, .int x2] : List Value).toArray s 0 0 (zAd g)) (F0 m 14 ls []) := by
    intro  H locs ls hw hl hH hz hS
    have hw := hP_14  hw
    refine lv_iconst (v := (0 : Int32)) hx hb dX5_in_14 (by decide) ?_
    exact hJ_15 (0 : Int32) _ _ _ hw hl hH hz hS
  refine lv_icmp_lt (tgt := 14) hx hb dX5_in_2 (by decide) (fun hc => ?_) (fun hc => ?_)
  · have hw := hw.1 hc
    exact hJ_14  _ _ _ hw hl hH hz hS
  · have hw := hw.2 hc
    refine lv_iload_n hx hb dX5_in_5 rfl (lv_at hl 0 rfl) ?_
    refine lv_iload_n hx hb dX5_in_6 rfl (lv_at hl 2 rfl) ?_
    refine lv_icmp_gt (tgt := 14) hx hb dX5_in_7 (by decide) (fun hc => ?_) (fun hc => ?_)
    · have hw := hw.1 hc
      exact hJ_14  _ _ _ hw hl hH hz hS
    · have hw := hw.2 hc
      refine lv_iconst (v := (1 : Int32)) hx hb dX5_in_10 (by decide) ?_
      refine lv_goto (tgt := 15) hx hb dX5_in_11 (by decide) ?_
      exact hJ_15 (1 : Int32) _ _ _ hw hl hH hz hS
def wp_X5_isEighths (l : Launch) (g : zG) (d : Nat) (x0 : Int32) (hp : zHp) (nx : Nat) (Post : Int32 → zHp → Nat → Prop) : Prop :=
  (zMt l g yX5_in cX5_in 3 (some .boolean) d 0 0 [.int x0, .int (-8000000 : Int32), .int (8000000 : Int32)] hp nx (zQi g fun x_3 hp_1 nx_2 =>
  (((x_3 = 0 ∨ x_3 = 1) ∧ Post x_3 hp_1 nx_2))))
set_option maxHeartbeats 40000000 in
theorem met_X5_isEighths {l : Launch} {g : zG} {d : Nat} {x0 : Int32} {hp : zHp} {nx : Nat} {Post : Int32 → zHp → Nat → Prop} (hw : wp_X5_isEighths l g d x0 hp nx Post) : zMt l g yX5_isEighths cX5_isEighths 1 (some .boolean) (d + 1) 0 0 [.int x0] hp nx (zQi g Post) := by
  refine z_start (by decide) (Nat.le_of_ble_eq_true rfl) ?_
  intro p e s m below meth c hk hr hin hH hz ls hl
  have hx := hk.1.1
  have hb := hk.1.2.1
  have hown := hk.1.2.2.2.1
  have hts := hk.1.2.2.2.2
  have hS : va_S (zAd g) s.heap s.heap [] := va_S.rf
  have hl : lv_has ls 1 [(0, .int x0)] := hl
  unfold wp_X5_isEighths at hw
  refine lv_iload_n hx hb dX5_isEighths_0 rfl (lv_at hl 0 rfl) ?_
  refine lv_ldcw hx hb hown (hts _ q2917) dX5_isEighths_1 ?_
  refine lv_ldcw hx hb hown (hts _ q2918) dX5_isEighths_4 ?_
  refine zr_calli (zr_runS (As := [.int x0, .int (-8000000 : Int32), .int (8000000 : Int32)]) hk hH hz hS hl.1 hw (va_cwS 3 hts (lw_S q2911 q2912 q162 q2913) rfl rfl rfl (by decide +kernel) (z_room (Nat.le_of_ble_eq_true rfl))) rfl rfl (Nat.le_of_ble_eq_true rfl) dX5_isEighths_7 ⟨Nat.le_of_ble_eq_true rfl, Nat.le_of_ble_eq_true rfl⟩) hS (fun x_3 hp_1 nx_2 hw H locs hH hz hS => ?_)
  exact zr_zret hk hr hH hz hS hw.1 hw.2 (Nat.le_of_ble_eq_true rfl) (Nat.le_of_ble_eq_true rfl) dX5_isEighths_10
theorem fk_X5_21 {ci : Nat} (h : ci ∈ [5]) : zFk "WhatIfSheetModel" 21 ci 3 := by
  simp only [List.mem_cons, List.not_mem_nil, or_false] at h
  rcases h with rfl
  · exact ⟨RX5, TX5, 76, rfl, by decide, q2677⟩
def wp_X5_isInput (l : Launch) (g : zG) (d : Nat) (h0 : Nat) (x1 : Int32) (hp : zHp) (nx : Nat) (Post : Int32 → zHp → Nat → Prop) : Prop :=
  (zgR hp (some h0) [5] 3 fun r_4 =>
  (zaI (g.2.1 0) hp r_4 fun a_5 n_6 f_7 => vp_in x1 n_6 ∧ ∀ x_8 : Int32, x_8 = f_7 x1.toNatClampNeg →
  (∃ P_14 : Int32 → Prop, (∀ (x_9 : Int32), P_14 x_9 →
  (((x_9 = 0 ∨ x_9 = 1) ∧ Post x_9 hp nx))) ∧
  ((x_8 = 0 →
  P_14 (1 : Int32)) ∧
  (¬ x_8 = 0 →
  P_14 (0 : Int32))))))
set_option maxHeartbeats 40000000 in
theorem met_X5_isInput {l : Launch} {g : zG} {d : Nat} {h0 : Nat} {x1 : Int32} {hp : zHp} {nx : Nat} {Post : Int32 → zHp → Nat → Prop} (hw : wp_X5_isInput l g d h0 x1 hp nx Post) : zMt l g yX5_isInput cX5_isInput 2 (some .boolean) (d + 1) 0 0 [.ref h0, .int x1] hp nx (zQi g Post) := by
  refine z_start (by decide) (Nat.le_of_ble_eq_true rfl) ?_
  intro p e s m below meth c hk hr hin hH hz ls hl
  have hx := hk.1.1
  have hb := hk.1.2.1
  have hown := hk.1.2.2.2.1
  have hts := hk.1.2.2.2.2
  have hS : va_S (zAd g) s.heap s.heap [] := va_S.rf
  have hl : lv_has ls 2 [(0, va_rf (some h0)), (1, .int x1)] := hl
  unfold wp_X5_isInput at hw
  refine zr_aload_n (r := some h0) hx hb dX5_isInput_0 rfl (lv_at hl 0 rfl) ?_
  obtain ⟨a_1, ci_2, fs_3, r_4, er, he, hc, hv, hw⟩ := zgR_e hw
  refine zw_get hk hH er he hv (fk_X5_21 hc) dX5_isInput_1 ?_
  refine lv_iload_n hx hb dX5_isInput_4 rfl (lv_at hl 1 rfl) ?_
  obtain ⟨a_5, n_6, f_7, er, he, hi, hw⟩ := zaI_e hw
  have hw := hw _ rfl
  refine zw_iald hk hH er he hi dX5_isInput_5 ?_
  generalize f_7 x1.toNatClampNeg = x_8 at hw ⊢
  obtain ⟨P_14, hP_14, hw⟩ := hw
  have hJ_14 : ∀ (x_9 : Int32) (H : Heap) (locs : List Loc) (ls : Array Slot), P_14 x_9 → lv_has ls 2 [(0, va_rf (some h0)), (1, .int x1)] → zHd g hp H → H.size = nx → va_S (zAd g) s.heap H locs → W p l e (zrm (d + 1) 0 0) s m ([.ref h0, .int x1] : List Value).toArray below meth c H locs 0 0 (MQ below (zQi g Post) ([.ref h0, .int x1] : List Value).toArray s 0 0 (zAd g)) (F0 m 14 ls [.int x_9]) := by
    intro x_9 H locs ls hw hl hH hz hS
    have hw := hP_14 x_9 hw
    exact zr_zret hk hr hH hz hS hw.1 hw.2 (Nat.le_of_ble_eq_true rfl) (Nat.le_of_ble_eq_true rfl) dX5_isInput_14
  refine lv_if_ne (tgt := 13) hx hb dX5_isInput_6 (by decide) (fun hc => ?_) (fun hc => ?_)
  · have hw := hw.2 hc
    refine lv_iconst (v := (0 : Int32)) hx hb dX5_isInput_13 (by decide) ?_
    exact hJ_14 (0 : Int32) _ _ _ hw hl hH hz hS
  · have hw := hw.1 hc
    refine lv_iconst (v := (1 : Int32)) hx hb dX5_isInput_9 (by decide) ?_
    refine lv_goto (tgt := 14) hx hb dX5_isInput_10 (by decide) ?_
    exact hJ_14 (1 : Int32) _ _ _ hw hl hH hz hS
def wp_X5_kept (l : Launch) (g : zG) (d : Nat) (x0 : Int32) (x1 : UInt64) (hp : zHp) (nx : Nat) (Post : UInt64 → zHp → Nat → Prop) : Prop :=
  ((x0 = (1 : Int32) →
  (zMt l g yX5_plain cX5_plain 2 (some .double) d 0 0 [.double (FP.l2d (FP.d2l x1))] hp nx (zQd g fun x_21 hp_19 nx_20 =>
  (Post x_21 hp_19 nx_20)))) ∧
  (¬ x0 = (1 : Int32) →
  ((x0 = (2 : Int32) →
  (vf_n32 (FP.d2f x1) ∧ (vf_n64 (FP.f2d (FP.d2f x1)) ∧ (zMt l g yX5_plain cX5_plain 2 (some .double) d 0 0 [.double (FP.f2d (FP.d2f x1))] hp nx (zQd g fun x_18 hp_16 nx_17 =>
  (Post x_18 hp_16 nx_17)))))) ∧
  (¬ x0 = (2 : Int32) →
  ((x0 = (3 : Int32) →
  (zMt l g yX5_plain cX5_plain 2 (some .double) d 0 0 [.double (FP.i2d (((FP.d2l x1).toInt32).toInt8.toInt32))] hp nx (zQd g fun x_15 hp_13 nx_14 =>
  (Post x_15 hp_13 nx_14)))) ∧
  (¬ x0 = (3 : Int32) →
  ((x0 = (4 : Int32) →
  (vf_n32 (FP.d2f x1) ∧ (vf_n32 (FP.frem (FP.d2f x1) (1135869952 : UInt32)) ∧ (vf_n64 (FP.f2d (FP.frem (FP.d2f x1) (1135869952 : UInt32))) ∧ (zMt l g yX5_plain cX5_plain 2 (some .double) d 0 0 [.double (FP.f2d (FP.frem (FP.d2f x1) (1135869952 : UInt32)))] hp nx (zQd g fun x_12 hp_10 nx_11 =>
  (Post x_12 hp_10 nx_11))))))) ∧
  (¬ x0 = (4 : Int32) →
  ((x0 = (5 : Int32) →
  (∃ P_87 : UInt64 → zHp → Nat → Prop, (∀ (x_4 : UInt64) (hp_5 : zHp) (nx_6 : Nat), P_87 x_4 hp_5 nx_6 →
  (zMt l g yX5_plain cX5_plain 2 (some .double) d 0 0 [.double x_4] hp_5 nx_6 (zQd g fun x_9 hp_7 nx_8 =>
  (Post x_9 hp_7 nx_8)))) ∧
  ((0 ≤ (Op.cmpValue (FP.dcmp x1 (13875379345695965184 : UInt64)) .g) →
  (((Op.cmpValue (FP.dcmp x1 (4652007308841189376 : UInt64)) .l) ≤ 0 →
  P_87 x1 hp nx) ∧
  (¬ (Op.cmpValue (FP.dcmp x1 (4652007308841189376 : UInt64)) .l) ≤ 0 →
  P_87 (4652007308841189376 : UInt64) hp nx))) ∧
  (¬ 0 ≤ (Op.cmpValue (FP.dcmp x1 (13875379345695965184 : UInt64)) .g) →
  P_87 (13875379345695965184 : UInt64) hp nx)))) ∧
  (¬ x0 = (5 : Int32) →
  (zMt l g yX5_plain cX5_plain 2 (some .double) d 0 0 [.double x1] hp nx (zQd g fun x_3 hp_1 nx_2 =>
  (Post x_3 hp_1 nx_2)))))))))))))
set_option maxHeartbeats 40000000 in
theorem met_X5_kept {l : Launch} {g : zG} {d : Nat} {x0 : Int32} {x1 : UInt64} {hp : zHp} {nx : Nat} {Post : UInt64 → zHp → Nat → Prop} (hw : wp_X5_kept l g d x0 x1 hp nx Post) : zMt l g yX5_kept cX5_kept 3 (some .double) (d + 1) 0 0 [.int x0, .double x1] hp nx (zQd g Post) := by
  refine z_start (by decide) (Nat.le_of_ble_eq_true rfl) ?_
  intro p e s m below meth c hk hr hin hH hz ls hl
  have hx := hk.1.1
  have hb := hk.1.2.1
  have hown := hk.1.2.2.2.1
  have hts := hk.1.2.2.2.2
  have hS : va_S (zAd g) s.heap s.heap [] := va_S.rf
  have hl : lv_has ls 3 [(0, .int x0), (1, .double x1)] := hl
  unfold wp_X5_kept at hw
  refine lv_iload_n hx hb dX5_kept_0 rfl (lv_at hl 0 rfl) ?_
  refine lv_iconst (v := (1 : Int32)) hx hb dX5_kept_1 (by decide) ?_
  refine lv_icmp_ne (tgt := 12) hx hb dX5_kept_2 (by decide) (fun hc => ?_) (fun hc => ?_)
  · have hw := hw.2 hc
    refine lv_iload_n hx hb dX5_kept_12 rfl (lv_at hl 0 rfl) ?_
    refine lv_iconst (v := (2 : Int32)) hx hb dX5_kept_13 (by decide) ?_
    refine lv_icmp_ne (tgt := 24) hx hb dX5_kept_14 (by decide) (fun hc => ?_) (fun hc => ?_)
    · have hw := hw.2 hc
      refine lv_iload_n hx hb dX5_kept_24 rfl (lv_at hl 0 rfl) ?_
      refine lv_iconst (v := (3 : Int32)) hx hb dX5_kept_25 (by decide) ?_
      refine lv_icmp_ne (tgt := 38) hx hb dX5_kept_26 (by decide) (fun hc => ?_) (fun hc => ?_)
      · have hw := hw.2 hc
        refine lv_iload_n hx hb dX5_kept_38 rfl (lv_at hl 0 rfl) ?_
        refine lv_iconst (v := (4 : Int32)) hx hb dX5_kept_39 (by decide) ?_
        refine lv_icmp_ne (tgt := 53) hx hb dX5_kept_40 (by decide) (fun hc => ?_) (fun hc => ?_)
        · have hw := hw.2 hc
          refine lv_iload_n hx hb dX5_kept_53 rfl (lv_at hl 0 rfl) ?_
          refine lv_iconst (v := (5 : Int32)) hx hb dX5_kept_54 (by decide) ?_
          refine lv_icmp_ne (tgt := 91) hx hb dX5_kept_55 (by decide) (fun hc => ?_) (fun hc => ?_)
          · have hw := hw.2 hc
            refine lv_dload_n hx hb dX5_kept_91 rfl (lv_at hl 1 rfl) ?_
            refine zr_calld (zr_runS (As := [.double x1]) hk hH hz hS hl.1 hw (va_cwS 1 hts (lw_S q2927 q2928 q162 q2929) rfl rfl rfl (by decide +kernel) (z_room (Nat.le_of_ble_eq_true rfl))) rfl rfl (Nat.le_of_ble_eq_true rfl) dX5_kept_92 ⟨Nat.le_of_ble_eq_true rfl, Nat.le_of_ble_eq_true rfl⟩) hS (fun x_3 hp_1 nx_2 hw H locs hH hz hS => ?_)
            exact zr_dret hk hr hH hz hS hw (Nat.le_of_ble_eq_true rfl) (Nat.le_of_ble_eq_true rfl) dX5_kept_95
          · have hw := hw.1 hc
            refine lv_dload_n hx hb dX5_kept_58 rfl (lv_at hl 1 rfl) ?_
            refine lv_ldc2d hx hb hown (hts _ q2931) dX5_kept_59 ?_
            refine lv_dcmp hx hb dX5_kept_62 ?_
            obtain ⟨P_87, hP_87, hw⟩ := hw
            have hJ_87 : ∀ (x_4 : UInt64) (hp_5 : zHp) (nx_6 : Nat) (H : Heap) (locs : List Loc) (ls : Array Slot), P_87 x_4 hp_5 nx_6 → lv_has ls 3 [(0, .int x0), (1, .double x1)] → zHd g hp_5 H → H.size = nx_6 → va_S (zAd g) s.heap H locs → W p l e (zrm (d + 1) 0 0) s m ([.int x0, .double x1] : List Value).toArray below meth c H locs 0 0 (MQ below (zQd g Post) ([.int x0, .double x1] : List Value).toArray s 0 0 (zAd g)) (F0 m 87 ls [.double x_4]) := by
              intro x_4 hp_5 nx_6 H locs ls hw hl hH hz hS
              have hw := hP_87 x_4 hp_5 nx_6 hw
              refine zr_calld (zr_runS (As := [.double x_4]) hk hH hz hS hl.1 hw (va_cwS 1 hts (lw_S q2927 q2928 q162 q2929) rfl rfl rfl (by decide +kernel) (z_room (Nat.le_of_ble_eq_true rfl))) rfl rfl (Nat.le_of_ble_eq_true rfl) dX5_kept_87 ⟨Nat.le_of_ble_eq_true rfl, Nat.le_of_ble_eq_true rfl⟩) hS (fun x_9 hp_7 nx_8 hw H locs hH hz hS => ?_)
              exact zr_dret hk hr hH hz hS hw (Nat.le_of_ble_eq_true rfl) (Nat.le_of_ble_eq_true rfl) dX5_kept_90
            refine lv_if_ge (tgt := 72) hx hb dX5_kept_63 (by decide) (fun hc => ?_) (fun hc => ?_)
            · have hw := hw.1 hc
              refine lv_dload_n hx hb dX5_kept_72 rfl (lv_at hl 1 rfl) ?_
              refine lv_ldc2d hx hb hown (hts _ q2932) dX5_kept_73 ?_
              refine lv_dcmp hx hb dX5_kept_76 ?_
              refine lv_if_le (tgt := 86) hx hb dX5_kept_77 (by decide) (fun hc => ?_) (fun hc => ?_)
              · have hw := hw.1 hc
                refine lv_dload_n hx hb dX5_kept_86 rfl (lv_at hl 1 rfl) ?_
                exact hJ_87 x1 hp nx _ _ _ hw hl hH hz hS
              · have hw := hw.2 hc
                refine lv_ldc2d hx hb hown (hts _ q2932) dX5_kept_80 ?_
                refine lv_goto (tgt := 87) hx hb dX5_kept_83 (by decide) ?_
                exact hJ_87 (4652007308841189376 : UInt64) hp nx _ _ _ hw hl hH hz hS
            · have hw := hw.2 hc
              refine lv_ldc2d hx hb hown (hts _ q2931) dX5_kept_66 ?_
              refine lv_goto (tgt := 87) hx hb dX5_kept_69 (by decide) ?_
              exact hJ_87 (13875379345695965184 : UInt64) hp nx _ _ _ hw hl hH hz hS
        · have hw := hw.1 hc
          refine lv_dload_n hx hb dX5_kept_43 rfl (lv_at hl 1 rfl) ?_
          obtain ⟨hne, hw⟩ := hw
          refine lv_d2f hx hb dX5_kept_44 hne ?_
          refine lv_ldcf hx hb hown (hts _ q2930) dX5_kept_45 ?_
          obtain ⟨hne, hw⟩ := hw
          refine lv_frem hx hb dX5_kept_47 hne ?_
          obtain ⟨hne, hw⟩ := hw
          refine lv_f2d hx hb dX5_kept_48 hne ?_
          refine zr_calld (zr_runS (As := [.double (FP.f2d (FP.frem (FP.d2f x1) (1135869952 : UInt32)))]) hk hH hz hS hl.1 hw (va_cwS 1 hts (lw_S q2927 q2928 q162 q2929) rfl rfl rfl (by decide +kernel) (z_room (Nat.le_of_ble_eq_true rfl))) rfl rfl (Nat.le_of_ble_eq_true rfl) dX5_kept_49 ⟨Nat.le_of_ble_eq_true rfl, Nat.le_of_ble_eq_true rfl⟩) hS (fun x_12 hp_10 nx_11 hw H locs hH hz hS => ?_)
          exact zr_dret hk hr hH hz hS hw (Nat.le_of_ble_eq_true rfl) (Nat.le_of_ble_eq_true rfl) dX5_kept_52
      · have hw := hw.1 hc
        refine lv_dload_n hx hb dX5_kept_29 rfl (lv_at hl 1 rfl) ?_
        refine lv_d2l hx hb dX5_kept_30 ?_
        refine lv_l2i hx hb dX5_kept_31 rfl ?_
        refine lv_i2b hx hb dX5_kept_32 rfl ?_
        refine lv_i2d hx hb dX5_kept_33 ?_
        refine zr_calld (zr_runS (As := [.double (FP.i2d (((FP.d2l x1).toInt32).toInt8.toInt32))]) hk hH hz hS hl.1 hw (va_cwS 1 hts (lw_S q2927 q2928 q162 q2929) rfl rfl rfl (by decide +kernel) (z_room (Nat.le_of_ble_eq_true rfl))) rfl rfl (Nat.le_of_ble_eq_true rfl) dX5_kept_34 ⟨Nat.le_of_ble_eq_true rfl, Nat.le_of_ble_eq_true rfl⟩) hS (fun x_15 hp_13 nx_14 hw H locs hH hz hS => ?_)
        exact zr_dret hk hr hH hz hS hw (Nat.le_of_ble_eq_true rfl) (Nat.le_of_ble_eq_true rfl) dX5_kept_37
    · have hw := hw.1 hc
      refine lv_dload_n hx hb dX5_kept_17 rfl (lv_at hl 1 rfl) ?_
      obtain ⟨hne, hw⟩ := hw
      refine lv_d2f hx hb dX5_kept_18 hne ?_
      obtain ⟨hne, hw⟩ := hw
      refine lv_f2d hx hb dX5_kept_19 hne ?_
      refine zr_calld (zr_runS (As := [.double (FP.f2d (FP.d2f x1))]) hk hH hz hS hl.1 hw (va_cwS 1 hts (lw_S q2927 q2928 q162 q2929) rfl rfl rfl (by decide +kernel) (z_room (Nat.le_of_ble_eq_true rfl))) rfl rfl (Nat.le_of_ble_eq_true rfl) dX5_kept_20 ⟨Nat.le_of_ble_eq_true rfl, Nat.le_of_ble_eq_true rfl⟩) hS (fun x_18 hp_16 nx_17 hw H locs hH hz hS => ?_)
      exact zr_dret hk hr hH hz hS hw (Nat.le_of_ble_eq_true rfl) (Nat.le_of_ble_eq_true rfl) dX5_kept_23
  · have hw := hw.1 hc
    refine lv_dload_n hx hb dX5_kept_5 rfl (lv_at hl 1 rfl) ?_
    refine lv_d2l hx hb dX5_kept_6 ?_
    refine lv_l2d hx hb dX5_kept_7 ?_
    refine zr_calld (zr_runS (As := [.double (FP.l2d (FP.d2l x1))]) hk hH hz hS hl.1 hw (va_cwS 1 hts (lw_S q2927 q2928 q162 q2929) rfl rfl rfl (by decide +kernel) (z_room (Nat.le_of_ble_eq_true rfl))) rfl rfl (Nat.le_of_ble_eq_true rfl) dX5_kept_8 ⟨Nat.le_of_ble_eq_true rfl, Nat.le_of_ble_eq_true rfl⟩) hS (fun x_21 hp_19 nx_20 hw H locs hH hz hS => ?_)
    exact zr_dret hk hr hH hz hS hw (Nat.le_of_ble_eq_true rfl) (Nat.le_of_ble_eq_true rfl) dX5_kept_11
def wp_X5_plain (l : Launch) (g : zG) (d : Nat) (x0 : UInt64) (hp : zHp) (nx : Nat) (Post : UInt64 → zHp → Nat → Prop) : Prop :=
  (∃ P_11 : UInt64 → Prop, (∀ (x_1 : UInt64), P_11 x_1 →
  (Post x_1 hp nx)) ∧
  (((Op.cmpValue (FP.dcmp x0 FP.dconst0) .l) = 0 →
  P_11 FP.dconst0) ∧
  (¬ (Op.cmpValue (FP.dcmp x0 FP.dconst0) .l) = 0 →
  P_11 x0)))
set_option maxHeartbeats 40000000 in
theorem met_X5_plain {l : Launch} {g : zG} {d : Nat} {x0 : UInt64} {hp : zHp} {nx : Nat} {Post : UInt64 → zHp → Nat → Prop} (hw : wp_X5_plain l g d x0 hp nx Post) : zMt l g yX5_plain cX5_plain 2 (some .double) (d + 1) 0 0 [.double x0] hp nx (zQd g Post) := by
  refine z_start (by decide) (Nat.le_of_ble_eq_true rfl) ?_
  intro p e s m below meth c hk hr hin hH hz ls hl
  have hx := hk.1.1
  have hb := hk.1.2.1
  have hown := hk.1.2.2.2.1
  have hts := hk.1.2.2.2.2
  have hS : va_S (zAd g) s.heap s.heap [] := va_S.rf
  have hl : lv_has ls 2 [(0, .double x0)] := hl
  unfold wp_X5_plain at hw
  refine lv_dload_n hx hb dX5_plain_0 rfl (lv_at hl 0 rfl) ?_
  refine lv_dconst0 hx hb dX5_plain_1 ?_
  refine lv_dcmp hx hb dX5_plain_2 ?_
  obtain ⟨P_11, hP_11, hw⟩ := hw
  have hJ_11 : ∀ (x_1 : UInt64) (H : Heap) (locs : List Loc) (ls : Array Slot), P_11 x_1 → lv_has ls 2 [(0, .double x0)] → zHd g hp H → H.size = nx → va_S (zAd g) s.heap H locs → W p l e (zrm (d + 1) 0 0) s m ([.double x0] : List Value).toArray below meth c H locs 0 0 (MQ below (zQd g Post) ([.double x0] : List Value).toArray s 0 0 (zAd g)) (F0 m 11 ls [.double x_1]) := by
    intro x_1 H locs ls hw hl hH hz hS
    have hw := hP_11 x_1 hw
    exact zr_dret hk hr hH hz hS hw (Nat.le_of_ble_eq_true rfl) (Nat.le_of_ble_eq_true rfl) dX5_plain_11
  refine lv_if_ne (tgt := 10) hx hb dX5_plain_3 (by decide) (fun hc => ?_) (fun hc => ?_)
  · have hw := hw.2 hc
    refine lv_dload_n hx hb dX5_plain_10 rfl (lv_at hl 0 rfl) ?_
    exact hJ_11 x0 _ _ _ hw hl hH hz hS
  · have hw := hw.1 hc
    refine lv_dconst0 hx hb dX5_plain_6 ?_
    refine lv_goto (tgt := 11) hx hb dX5_plain_7 (by decide) ?_
    exact hJ_11 FP.dconst0 _ _ _ hw hl hH hz hS
def wp_X5_clear (l : Launch) (g : zG) (d : Nat) (h0 : Nat) (x1 : Int32) (hp : zHp) (nx : Nat) (Post : Int32 → zHp → Nat → Prop) : Prop :=
  (zMt l g yX5_isCell cX5_isCell 1 (some .boolean) d 0 0 [.int x1] hp nx (zQi g fun x_3 hp_1 nx_2 =>
  ((x_3 = 0 →
  (Post (-2 : Int32) hp_1 nx_2)) ∧
  (¬ x_3 = 0 →
  (zgR hp_1 (some h0) [5] 3 fun r_7 =>
  (zaI (g.2.1 0) hp_1 r_7 fun a_8 n_9 f_10 => vp_in x1 n_9 ∧ zB g ≤ a_8 ∧ ∀ hp_11 : zHp, hp_11 = va_up hp_1 a_8 (some (.inl (g.2.1 0, n_9, .inl (va_up f_10 x1.toNatClampNeg (0 : Int32))))) →
  (zo hp_11 (some h0) [5] fun a_30 ci_31 fs_32 => zMt l g yX5_tellNames cX5_tellNames 3 none d 0 0 (.ref a_30 :: [.int x1]) hp_11 nx_2 (zQv g fun hp_12 nx_13 =>
  (zgR hp_12 (some h0) [5] 1 fun r_17 =>
  (zaI (g.2.1 3) hp_12 r_17 fun a_18 n_19 f_20 => vp_in x1 n_19 ∧ zB g ≤ a_18 ∧ ∀ hp_21 : zHp, hp_21 = va_up hp_12 a_18 (some (.inl (g.2.1 3, n_19, .inl (va_up f_20 x1.toNatClampNeg (vp_nar .boolean (0 : Int32)))))) →
  (zgR hp_21 (some h0) [5] 2 fun r_25 =>
  (zaD (g.2.1 1) hp_21 r_25 fun a_26 n_27 f_28 => vp_in x1 n_27 ∧ zB g ≤ a_26 ∧ ∀ hp_29 : zHp, hp_29 = va_up hp_21 a_26 (some (.inl (g.2.1 1, n_27, .inr (.inr (.inr (.inl (va_up f_28 x1.toNatClampNeg FP.dconst0))))))) →
  (Post (1 : Int32) hp_29 nx_13)))))))))))))
set_option maxHeartbeats 40000000 in
theorem met_X5_clear {l : Launch} {g : zG} {d : Nat} {h0 : Nat} {x1 : Int32} {hp : zHp} {nx : Nat} {Post : Int32 → zHp → Nat → Prop} (hw : wp_X5_clear l g d h0 x1 hp nx Post) : zMt l g yX5_clear cX5_clear 2 (some .int) (d + 1) 0 0 [.ref h0, .int x1] hp nx (zQi g Post) := by
  refine z_start (by decide) (Nat.le_of_ble_eq_true rfl) ?_
  intro p e s m below meth c hk hr hin hH hz ls hl
  have hx := hk.1.1
  have hb := hk.1.2.1
  have hown := hk.1.2.2.2.1
  have hts := hk.1.2.2.2.2
  have hS : va_S (zAd g) s.heap s.heap [] := va_S.rf
  have hl : lv_has ls 2 [(0, va_rf (some h0)), (1, .int x1)] := hl
  unfold wp_X5_clear at hw
  refine lv_iload_n hx hb dX5_clear_0 rfl (lv_at hl 1 rfl) ?_
  refine zr_calli (zr_runS (As := [.int x1]) hk hH hz hS hl.1 hw (va_cwS 1 hts (lw_S q2908 q2909 q162 q2910) rfl rfl rfl (by decide +kernel) (z_room (Nat.le_of_ble_eq_true rfl))) rfl rfl (Nat.le_of_ble_eq_true rfl) dX5_clear_1 ⟨Nat.le_of_ble_eq_true rfl, Nat.le_of_ble_eq_true rfl⟩) hS (fun x_3 hp_1 nx_2 hw H locs hH hz hS => ?_)
  refine lv_if_ne (tgt := 10) hx hb dX5_clear_4 (by decide) (fun hc => ?_) (fun hc => ?_)
  · have hw := hw.2 hc
    refine zr_aload_n (r := some h0) hx hb dX5_clear_10 rfl (lv_at hl 0 rfl) ?_
    obtain ⟨a_4, ci_5, fs_6, r_7, er, he, hc, hv, hw⟩ := zgR_e hw
    refine zw_get hk hH er he hv (fk_X5_21 hc) dX5_clear_11 ?_
    refine lv_iload_n hx hb dX5_clear_14 rfl (lv_at hl 1 rfl) ?_
    refine lv_iconst (v := (0 : Int32)) hx hb dX5_clear_15 (by decide) ?_
    obtain ⟨a_8, n_9, f_10, er, he, hi, hA, hw⟩ := zaI_e hw
    obtain ⟨hp_11, eh⟩ : ∃ y : zHp, y = va_up hp_1 a_8 (some (.inl (g.2.1 0, n_9, .inl (va_up f_10 x1.toNatClampNeg (0 : Int32))))) := ⟨_, rfl⟩
    have hw := hw hp_11 eh
    refine zw_iast hk hH hz hS er he hi hA eh dX5_clear_16 (fun H locs hH hz hS => ?_)
    refine zr_aload_n (r := some h0) hx hb dX5_clear_17 rfl (lv_at hl 0 rfl) ?_
    refine lv_iload_n hx hb dX5_clear_18 rfl (lv_at hl 1 rfl) ?_
    obtain ⟨a_30, ci_31, fs_32, er, he, hc, hw⟩ := zo_e hw
    obtain rfl := List.mem_singleton.mp hc
    refine zr_callv (zw_runV (As := [.int x1]) hk hH hz hS hl.1 er hw (cwV 1 hts (lw_V q2937 q2939 qs70 q162 q2940) rfl rfl rfl (by decide +kernel) (z_room (Nat.le_of_ble_eq_true rfl))) he rfl rfl rfl (Nat.le_of_ble_eq_true rfl) dX5_clear_19 ⟨Nat.le_of_ble_eq_true rfl, Nat.le_of_ble_eq_true rfl⟩) hS (fun hp_12 nx_13 hw H locs hH hz hS => ?_)
    refine zr_aload_n (r := some h0) hx hb dX5_clear_22 rfl (lv_at hl 0 rfl) ?_
    obtain ⟨a_14, ci_15, fs_16, r_17, er, he, hc, hv, hw⟩ := zgR_e hw
    refine zw_get hk hH er he hv (fk_X5_13 hc) dX5_clear_23 ?_
    refine lv_iload_n hx hb dX5_clear_26 rfl (lv_at hl 1 rfl) ?_
    refine lv_iconst (v := (0 : Int32)) hx hb dX5_clear_27 (by decide) ?_
    obtain ⟨a_18, n_19, f_20, er, he, hi, hA, hw⟩ := zaI_e hw
    obtain ⟨hp_21, eh⟩ : ∃ y : zHp, y = va_up hp_12 a_18 (some (.inl (g.2.1 3, n_19, .inl (va_up f_20 x1.toNatClampNeg (vp_nar .boolean (0 : Int32)))))) := ⟨_, rfl⟩
    have hw := hw hp_21 eh
    refine zw_zast hk hH hz hS er he hi hA eh dX5_clear_28 (fun H locs hH hz hS => ?_)
    refine zr_aload_n (r := some h0) hx hb dX5_clear_29 rfl (lv_at hl 0 rfl) ?_
    obtain ⟨a_22, ci_23, fs_24, r_25, er, he, hc, hv, hw⟩ := zgR_e hw
    refine zw_get hk hH er he hv (fk_X5_17 hc) dX5_clear_30 ?_
    refine lv_iload_n hx hb dX5_clear_33 rfl (lv_at hl 1 rfl) ?_
    refine lv_dconst0 hx hb dX5_clear_34 ?_
    obtain ⟨a_26, n_27, f_28, er, he, hi, hA, hw⟩ := zaD_e hw
    obtain ⟨hp_29, eh⟩ : ∃ y : zHp, y = va_up hp_21 a_26 (some (.inl (g.2.1 1, n_27, .inr (.inr (.inr (.inl (va_up f_28 x1.toNatClampNeg FP.dconst0))))))) := ⟨_, rfl⟩
    have hw := hw hp_29 eh
    refine zw_dast hk hH hz hS er he hi hA eh dX5_clear_35 (fun H locs hH hz hS => ?_)
    refine lv_iconst (v := (1 : Int32)) hx hb dX5_clear_36 (by decide) ?_
    exact zr_iret hk hr hH hz hS hw (Nat.le_of_ble_eq_true rfl) (Nat.le_of_ble_eq_true rfl) dX5_clear_37
  · have hw := hw.1 hc
    refine lv_bipush (v := (-2 : Int32)) hx hb dX5_clear_7 (by decide) ?_
    exact zr_iret hk hr hH hz hS hw (Nat.le_of_ble_eq_true rfl) (Nat.le_of_ble_eq_true rfl) dX5_clear_9
theorem fk_X5_52 {ci : Nat} (h : ci ∈ [5]) : zFk "WhatIfSheetModel" 52 ci 12 := by
  simp only [List.mem_cons, List.not_mem_nil, or_false] at h
  rcases h with rfl
  · exact ⟨RX5, TX5, 76, rfl, by decide, q2686⟩
theorem fk_X5_26 {ci : Nat} (h : ci ∈ [5]) : zFk "WhatIfSheetModel" 26 ci 4 := by
  simp only [List.mem_cons, List.not_mem_nil, or_false] at h
  rcases h with rfl
  · exact ⟨RX5, TX5, 76, rfl, by decide, q2678⟩
theorem fk_X5_55 {ci : Nat} (h : ci ∈ [5]) : zFk "WhatIfSheetModel" 55 ci 13 := by
  simp only [List.mem_cons, List.not_mem_nil, or_false] at h
  rcases h with rfl
  · exact ⟨RX5, TX5, 76, rfl, by decide, q2687⟩
def wp_X5_tellNames (l : Launch) (g : zG) (d : Nat) (h0 : Nat) (x1 : Int32) (hp : zHp) (nx : Nat) (Post : zHp → Nat → Prop) : Prop :=
  (zgR hp (some h0) [5] 12 fun r_4 =>
  (zaI (g.2.1 0) hp r_4 fun a_5 n_6 f_7 => vp_in x1 n_6 ∧ zB g ≤ a_5 ∧ ∀ hp_8 : zHp, hp_8 = va_up hp a_5 (some (.inl (g.2.1 0, n_6, .inl (va_up f_7 x1.toNatClampNeg (0 : Int32))))) →
  (∃ I_9 : Nat → Int32 → zHp → Prop, (∃ n_120, I_9 n_120 (0 : Int32) hp_8) ∧ ∀ (n_11 : Nat) (x_9 : Int32) (hp_10 : zHp), I_9 n_11 x_9 hp_10 →
  (((6 : Int32) ≤ x_9 →
  (∃ I_32 : Nat → Int32 → zHp → Prop, (∃ n_105, I_32 n_105 (0 : Int32) hp_10) ∧ ∀ (n_14 : Nat) (x_12 : Int32) (hp_13 : zHp), I_32 n_14 x_12 hp_13 →
  (zgR hp_13 (some h0) [5] 3 fun r_18 =>
  (zaI (g.2.1 0) hp_13 r_18 fun a_19 n_20 f_21 => vp_in x1 n_20 ∧ ∀ x_22 : Int32, x_22 = f_21 x1.toNatClampNeg →
  ((x_22 ≤ x_12 →
  (Post hp_13 nx)) ∧
  (¬ x_22 ≤ x_12 →
  (zgR hp_13 (some h0) [5] 4 fun r_26 =>
  (zaR (g.2.1 14) hp_13 r_26 fun a_27 n_28 f_29 => vp_in x1 n_28 ∧ ∀ r_30 : Option Nat, r_30 = f_29 x1.toNatClampNeg →
  (zaI (g.2.1 0) hp_13 r_30 fun a_31 n_32 f_33 => vp_in x_12 n_32 ∧ ∀ x_34 : Int32, x_34 = f_33 x_12.toNatClampNeg →
  (∃ P_74 : Int32 → zHp → Prop, (∀ (x_35 : Int32) (hp_36 : zHp), P_74 x_35 hp_36 →
  (zgR hp_36 (some h0) [5] 4 fun r_40 =>
  (zaR (g.2.1 14) hp_36 r_40 fun a_41 n_42 f_43 => vp_in x1 n_42 ∧ ∀ r_44 : Option Nat, r_44 = f_43 x1.toNatClampNeg →
  (zaI (g.2.1 0) hp_36 r_44 fun a_45 n_46 f_47 => vp_in x_35 n_46 ∧ ∀ x_48 : Int32, x_48 = f_47 x_35.toNatClampNeg →
  (∃ P_110 : Int32 → zHp → Prop, (∀ (x_49 : Int32) (hp_50 : zHp), P_110 x_49 hp_50 →
  (∀ x_51 : Int32, x_51 = x_49 + (1 : Int32) →
  (∃ k_52, k_52 < n_14 ∧ I_32 k_52 x_51 hp_50))) ∧
  ((x_48 < (300 : Int32) →
  P_110 x_35 hp_36) ∧
  (¬ x_48 < (300 : Int32) →
  (zgR hp_36 (some h0) [5] 13 fun r_56 =>
  (zaR (g.2.1 14) hp_36 r_56 fun a_57 n_58 f_59 => vp_in x1 n_58 ∧ ∀ r_60 : Option Nat, r_60 = f_59 x1.toNatClampNeg →
  (zgR hp_36 (some h0) [5] 4 fun r_64 =>
  (zaR (g.2.1 14) hp_36 r_64 fun a_65 n_66 f_67 => vp_in x1 n_66 ∧ ∀ r_68 : Option Nat, r_68 = f_67 x1.toNatClampNeg →
  (zaI (g.2.1 0) hp_36 r_68 fun a_69 n_70 f_71 => vp_in x_35 n_70 ∧ ∀ x_72 : Int32, x_72 = f_71 x_35.toNatClampNeg →
  (¬ (10 : Int32) = 0 ∧ (zaI (g.2.1 0) hp_36 r_60 fun a_73 n_74 f_75 => vp_in (x_72 - x_72 / (10 : Int32) * (10 : Int32)) n_74 ∧ ∀ x_76 : Int32, x_76 = f_75 (x_72 - x_72 / (10 : Int32) * (10 : Int32)).toNatClampNeg →
  (zaI (g.2.1 0) hp_36 r_60 fun a_77 n_78 f_79 => vp_in (x_72 - x_72 / (10 : Int32) * (10 : Int32)) n_78 ∧ zB g ≤ a_77 ∧ ∀ hp_80 : zHp, hp_80 = va_up hp_36 a_77 (some (.inl (g.2.1 0, n_78, .inl (va_up f_79 (x_72 - x_72 / (10 : Int32) * (10 : Int32)).toNatClampNeg (x_76 + (1 : Int32)))))) →
  P_110 x_35 hp_80))))))))))))))) ∧
  (((24 : Int32) ≤ x_34 →
  P_74 x_12 hp_13) ∧
  (¬ (24 : Int32) ≤ x_34 →
  (zgR hp_13 (some h0) [5] 12 fun r_84 =>
  (zaI (g.2.1 0) hp_13 r_84 fun a_85 n_86 f_87 => vp_in x1 n_86 ∧ ∀ x_88 : Int32, x_88 = f_87 x1.toNatClampNeg →
  (zgR hp_13 (some h0) [5] 4 fun r_92 =>
  (zaR (g.2.1 14) hp_13 r_92 fun a_93 n_94 f_95 => vp_in x1 n_94 ∧ ∀ r_96 : Option Nat, r_96 = f_95 x1.toNatClampNeg →
  (zaI (g.2.1 0) hp_13 r_96 fun a_97 n_98 f_99 => vp_in x_12 n_98 ∧ ∀ x_100 : Int32, x_100 = f_99 x_12.toNatClampNeg →
  (zaI (g.2.1 0) hp_13 r_84 fun a_101 n_102 f_103 => vp_in x1 n_102 ∧ zB g ≤ a_101 ∧ ∀ hp_104 : zHp, hp_104 = va_up hp_13 a_101 (some (.inl (g.2.1 0, n_102, .inl (va_up f_103 x1.toNatClampNeg (x_88 ||| ((1 : Int32) <<< (x_100 &&& 31))))))) →
  P_74 x_12 hp_104)))))))))))))))))) ∧
  (¬ (6 : Int32) ≤ x_9 →
  (zgR hp_10 (some h0) [5] 13 fun r_109 =>
  (zaR (g.2.1 14) hp_10 r_109 fun a_110 n_111 f_112 => vp_in x1 n_111 ∧ ∀ r_113 : Option Nat, r_113 = f_112 x1.toNatClampNeg →
  (zaI (g.2.1 0) hp_10 r_113 fun a_114 n_115 f_116 => vp_in x_9 n_115 ∧ zB g ≤ a_114 ∧ ∀ hp_117 : zHp, hp_117 = va_up hp_10 a_114 (some (.inl (g.2.1 0, n_115, .inl (va_up f_116 x_9.toNatClampNeg (0 : Int32))))) →
  (∀ x_118 : Int32, x_118 = x_9 + (1 : Int32) →
  (∃ k_119, k_119 < n_11 ∧ I_9 k_119 x_118 hp_117))))))))))
set_option maxHeartbeats 40000000 in
theorem met_X5_tellNames {l : Launch} {g : zG} {d : Nat} {h0 : Nat} {x1 : Int32} {hp : zHp} {nx : Nat} {Post : zHp → Nat → Prop} (hw : wp_X5_tellNames l g d h0 x1 hp nx Post) : zMt l g yX5_tellNames cX5_tellNames 3 none (d + 1) 0 0 [.ref h0, .int x1] hp nx (zQv g Post) := by
  refine z_start (by decide) (Nat.le_of_ble_eq_true rfl) ?_
  intro p e s m below meth c hk hr hin hH hz ls hl
  have hx := hk.1.1
  have hb := hk.1.2.1
  have hown := hk.1.2.2.2.1
  have hts := hk.1.2.2.2.2
  have hS : va_S (zAd g) s.heap s.heap [] := va_S.rf
  have hl : lv_has ls 3 [(0, va_rf (some h0)), (1, .int x1)] := hl
  unfold wp_X5_tellNames at hw
  refine zr_aload_n (r := some h0) hx hb dX5_tellNames_0 rfl (lv_at hl 0 rfl) ?_
  obtain ⟨a_1, ci_2, fs_3, r_4, er, he, hc, hv, hw⟩ := zgR_e hw
  refine zw_get hk hH er he hv (fk_X5_52 hc) dX5_tellNames_1 ?_
  refine lv_iload_n hx hb dX5_tellNames_4 rfl (lv_at hl 1 rfl) ?_
  refine lv_iconst (v := (0 : Int32)) hx hb dX5_tellNames_5 (by decide) ?_
  obtain ⟨a_5, n_6, f_7, er, he, hi, hA, hw⟩ := zaI_e hw
  obtain ⟨hp_8, eh⟩ : ∃ y : zHp, y = va_up hp a_5 (some (.inl (g.2.1 0, n_6, .inl (va_up f_7 x1.toNatClampNeg (0 : Int32))))) := ⟨_, rfl⟩
  have hw := hw hp_8 eh
  refine zw_iast hk hH hz hS er he hi hA eh dX5_tellNames_6 (fun H locs hH hz hS => ?_)
  refine lv_iconst (v := (0 : Int32)) hx hb dX5_tellNames_7 (by decide) ?_
  refine lv_istore_n (i := 2) (lv' := [(2, .int (0 : Int32)), (0, va_rf (some h0)), (1, .int x1)]) hx hb dX5_tellNames_8 rfl hl (by decide) (by first | rfl | simp [List.filter_cons, z_cat, z_catI, z_catJ, z_catF, z_catD]) (fun ls hl => ?_)
  obtain ⟨I_9, ⟨n_120, hI⟩, hB_9⟩ := hw
  have hL_9 : ∀ (n_11 : Nat) (x_9 : Int32) (hp_10 : zHp) (H : Heap) (locs : List Loc) (ls : Array Slot), I_9 n_11 x_9 hp_10 → lv_has ls 3 [(0, va_rf (some h0)), (1, .int x1), (2, .int x_9)] → zHd g hp_10 H → H.size = nx → va_S (zAd g) s.heap H locs → W p l e (zrm (d + 1) 0 0) s m ([.ref h0, .int x1] : List Value).toArray below meth c H locs 0 0 (MQ below (zQv g Post) ([.ref h0, .int x1] : List Value).toArray s 0 0 (zAd g)) (F0 m 9 ls []) := by
    intro n_11
    induction n_11 using Nat.strongRecOn with
    | _ n_11 ih_9 =>
      intro x_9 hp_10 H locs ls hw hl hH hz hS
      have hw := hB_9 n_11 x_9 hp_10 hw
      refine lv_iload_n hx hb dX5_tellNames_9 rfl (lv_at hl 2 rfl) ?_
      refine lv_bipush (v := (6 : Int32)) hx hb dX5_tellNames_10 (by decide) ?_
      refine lv_icmp_ge (tgt := 30) hx hb dX5_tellNames_12 (by decide) (fun hc => ?_) (fun hc => ?_)
      · have hw := hw.1 hc
        refine lv_iconst (v := (0 : Int32)) hx hb dX5_tellNames_30 (by decide) ?_
        refine lv_istore_n (i := 2) (lv' := [(2, .int (0 : Int32)), (0, va_rf (some h0)), (1, .int x1)]) hx hb dX5_tellNames_31 rfl hl (by decide) (by first | rfl | simp [List.filter_cons, z_cat, z_catI, z_catJ, z_catF, z_catD]) (fun ls hl => ?_)
        obtain ⟨I_32, ⟨n_105, hI⟩, hB_32⟩ := hw
        have hL_32 : ∀ (n_14 : Nat) (x_12 : Int32) (hp_13 : zHp) (H : Heap) (locs : List Loc) (ls : Array Slot), I_32 n_14 x_12 hp_13 → lv_has ls 3 [(0, va_rf (some h0)), (1, .int x1), (2, .int x_12)] → zHd g hp_13 H → H.size = nx → va_S (zAd g) s.heap H locs → W p l e (zrm (d + 1) 0 0) s m ([.ref h0, .int x1] : List Value).toArray below meth c H locs 0 0 (MQ below (zQv g Post) ([.ref h0, .int x1] : List Value).toArray s 0 0 (zAd g)) (F0 m 32 ls []) := by
          intro n_14
          induction n_14 using Nat.strongRecOn with
          | _ n_14 ih_32 =>
            intro x_12 hp_13 H locs ls hw hl hH hz hS
            have hw := hB_32 n_14 x_12 hp_13 hw
            refine lv_iload_n hx hb dX5_tellNames_32 rfl (lv_at hl 2 rfl) ?_
            refine zr_aload_n (r := some h0) hx hb dX5_tellNames_33 rfl (lv_at hl 0 rfl) ?_
            obtain ⟨a_15, ci_16, fs_17, r_18, er, he, hc, hv, hw⟩ := zgR_e hw
            refine zw_get hk hH er he hv (fk_X5_21 hc) dX5_tellNames_34 ?_
            refine lv_iload_n hx hb dX5_tellNames_37 rfl (lv_at hl 1 rfl) ?_
            obtain ⟨a_19, n_20, f_21, er, he, hi, hw⟩ := zaI_e hw
            have hw := hw _ rfl
            refine zw_iald hk hH er he hi dX5_tellNames_38 ?_
            generalize f_21 x1.toNatClampNeg = x_22 at hw ⊢
            refine lv_icmp_ge (tgt := 116) hx hb dX5_tellNames_39 (by decide) (fun hc => ?_) (fun hc => ?_)
            · have hw := hw.1 hc
              exact zr_vret hk hr hH hz hS hw (Nat.le_of_ble_eq_true rfl) (Nat.le_of_ble_eq_true rfl) dX5_tellNames_116
            · have hw := hw.2 hc
              refine zr_aload_n (r := some h0) hx hb dX5_tellNames_42 rfl (lv_at hl 0 rfl) ?_
              obtain ⟨a_23, ci_24, fs_25, r_26, er, he, hc, hv, hw⟩ := zgR_e hw
              refine zw_get hk hH er he hv (fk_X5_26 hc) dX5_tellNames_43 ?_
              refine lv_iload_n hx hb dX5_tellNames_46 rfl (lv_at hl 1 rfl) ?_
              obtain ⟨a_27, n_28, f_29, er, he, hi, hw⟩ := zaR_e hw
              have hw := hw _ rfl
              refine zw_aald hk hH 14 er he rfl rfl hi dX5_tellNames_47 ?_
              generalize f_29 x1.toNatClampNeg = r_30 at hw ⊢
              refine lv_iload_n hx hb dX5_tellNames_48 rfl (lv_at hl 2 rfl) ?_
              obtain ⟨a_31, n_32, f_33, er, he, hi, hw⟩ := zaI_e hw
              have hw := hw _ rfl
              refine zw_iald hk hH er he hi dX5_tellNames_49 ?_
              generalize f_33 x_12.toNatClampNeg = x_34 at hw ⊢
              refine lv_bipush (v := (24 : Int32)) hx hb dX5_tellNames_50 (by decide) ?_
              obtain ⟨P_74, hP_74, hw⟩ := hw
              have hJ_74 : ∀ (x_35 : Int32) (hp_36 : zHp) (H : Heap) (locs : List Loc) (ls : Array Slot), P_74 x_35 hp_36 → lv_has ls 3 [(0, va_rf (some h0)), (1, .int x1), (2, .int x_35)] → zHd g hp_36 H → H.size = nx → va_S (zAd g) s.heap H locs → W p l e (zrm (d + 1) 0 0) s m ([.ref h0, .int x1] : List Value).toArray below meth c H locs 0 0 (MQ below (zQv g Post) ([.ref h0, .int x1] : List Value).toArray s 0 0 (zAd g)) (F0 m 74 ls []) := by
                intro x_35 hp_36 H locs ls hw hl hH hz hS
                have hw := hP_74 x_35 hp_36 hw
                refine zr_aload_n (r := some h0) hx hb dX5_tellNames_74 rfl (lv_at hl 0 rfl) ?_
                obtain ⟨a_37, ci_38, fs_39, r_40, er, he, hc, hv, hw⟩ := zgR_e hw
                refine zw_get hk hH er he hv (fk_X5_26 hc) dX5_tellNames_75 ?_
                refine lv_iload_n hx hb dX5_tellNames_78 rfl (lv_at hl 1 rfl) ?_
                obtain ⟨a_41, n_42, f_43, er, he, hi, hw⟩ := zaR_e hw
                have hw := hw _ rfl
                refine zw_aald hk hH 14 er he rfl rfl hi dX5_tellNames_79 ?_
                generalize f_43 x1.toNatClampNeg = r_44 at hw ⊢
                refine lv_iload_n hx hb dX5_tellNames_80 rfl (lv_at hl 2 rfl) ?_
                obtain ⟨a_45, n_46, f_47, er, he, hi, hw⟩ := zaI_e hw
                have hw := hw _ rfl
                refine zw_iald hk hH er he hi dX5_tellNames_81 ?_
                generalize f_47 x_35.toNatClampNeg = x_48 at hw ⊢
                refine lv_sipush (v := (300 : Int32)) hx hb dX5_tellNames_82 (by decide) ?_
                obtain ⟨P_110, hP_110, hw⟩ := hw
                have hJ_110 : ∀ (x_49 : Int32) (hp_50 : zHp) (H : Heap) (locs : List Loc) (ls : Array Slot), P_110 x_49 hp_50 → lv_has ls 3 [(0, va_rf (some h0)), (1, .int x1), (2, .int x_49)] → zHd g hp_50 H → H.size = nx → va_S (zAd g) s.heap H locs → W p l e (zrm (d + 1) 0 0) s m ([.ref h0, .int x1] : List Value).toArray below meth c H locs 0 0 (MQ below (zQv g Post) ([.ref h0, .int x1] : List Value).toArray s 0 0 (zAd g)) (F0 m 110 ls []) := by
                  intro x_49 hp_50 H locs ls hw hl hH hz hS
                  have hw := hP_110 x_49 hp_50 hw
                  obtain ⟨x_51, ex_51⟩ : ∃ y : Int32, y = x_49 + (1 : Int32) := ⟨_, rfl⟩
                  have hw := hw x_51 ex_51
                  refine lv_iinc (v := x_51) (lv' := [(2, .int x_51), (0, va_rf (some h0)), (1, .int x1)]) hx hb dX5_tellNames_110 hl (k := 2) rfl (by rw [ex_51]; rfl) (by decide) (by first | rfl | simp [List.filter_cons, z_cat, z_catI, z_catJ, z_catF, z_catD]) (fun ls hl => ?_)
                  refine lv_goto (tgt := 32) hx hb dX5_tellNames_113 (by decide) ?_
                  obtain ⟨k_52, hlt, hw⟩ := hw
                  exact ih_32 k_52 hlt x_51 hp_50 _ _ _ hw (lv_sub hl [1, 2, 0] rfl) hH hz hS
                refine lv_icmp_lt (tgt := 110) hx hb dX5_tellNames_85 (by decide) (fun hc => ?_) (fun hc => ?_)
                · have hw := hw.1 hc
                  exact hJ_110 x_35 hp_36 _ _ _ hw hl hH hz hS
                · have hw := hw.2 hc
                  refine zr_aload_n (r := some h0) hx hb dX5_tellNames_88 rfl (lv_at hl 0 rfl) ?_
                  obtain ⟨a_53, ci_54, fs_55, r_56, er, he, hc, hv, hw⟩ := zgR_e hw
                  refine zw_get hk hH er he hv (fk_X5_55 hc) dX5_tellNames_89 ?_
                  refine lv_iload_n hx hb dX5_tellNames_92 rfl (lv_at hl 1 rfl) ?_
                  obtain ⟨a_57, n_58, f_59, er, he, hi, hw⟩ := zaR_e hw
                  have hw := hw _ rfl
                  refine zw_aald hk hH 14 er he rfl rfl hi dX5_tellNames_93 ?_
                  generalize f_59 x1.toNatClampNeg = r_60 at hw ⊢
                  refine zr_aload_n (r := some h0) hx hb dX5_tellNames_94 rfl (lv_at hl 0 rfl) ?_
                  obtain ⟨a_61, ci_62, fs_63, r_64, er, he, hc, hv, hw⟩ := zgR_e hw
                  refine zw_get hk hH er he hv (fk_X5_26 hc) dX5_tellNames_95 ?_
                  refine lv_iload_n hx hb dX5_tellNames_98 rfl (lv_at hl 1 rfl) ?_
                  obtain ⟨a_65, n_66, f_67, er, he, hi, hw⟩ := zaR_e hw
                  have hw := hw _ rfl
                  refine zw_aald hk hH 14 er he rfl rfl hi dX5_tellNames_99 ?_
                  generalize f_67 x1.toNatClampNeg = r_68 at hw ⊢
                  refine lv_iload_n hx hb dX5_tellNames_100 rfl (lv_at hl 2 rfl) ?_
                  obtain ⟨a_69, n_70, f_71, er, he, hi, hw⟩ := zaI_e hw
                  have hw := hw _ rfl
                  refine zw_iald hk hH er he hi dX5_tellNames_101 ?_
                  generalize f_71 x_35.toNatClampNeg = x_72 at hw ⊢
                  refine lv_bipush (v := (10 : Int32)) hx hb dX5_tellNames_102 (by decide) ?_
                  obtain ⟨hne, hw⟩ := hw
                  refine lv_irem hx hb dX5_tellNames_104 hne ?_
                  refine lv_dup2_11 hx hb dX5_tellNames_105 rfl (z_cat _) ?_
                  obtain ⟨a_73, n_74, f_75, er, he, hi, hw⟩ := zaI_e hw
                  have hw := hw _ rfl
                  refine zw_iald hk hH er he hi dX5_tellNames_106 ?_
                  generalize f_75 (x_72 - x_72 / (10 : Int32) * (10 : Int32)).toNatClampNeg = x_76 at hw ⊢
                  refine lv_iconst (v := (1 : Int32)) hx hb dX5_tellNames_107 (by decide) ?_
                  refine lv_iadd hx hb dX5_tellNames_108 ?_
                  obtain ⟨a_77, n_78, f_79, er, he, hi, hA, hw⟩ := zaI_e hw
                  obtain ⟨hp_80, eh⟩ : ∃ y : zHp, y = va_up hp_36 a_77 (some (.inl (g.2.1 0, n_78, .inl (va_up f_79 (x_72 - x_72 / (10 : Int32) * (10 : Int32)).toNatClampNeg (x_76 + (1 : Int32)))))) := ⟨_, rfl⟩
                  have hw := hw hp_80 eh
                  refine zw_iast hk hH hz hS er he hi hA eh dX5_tellNames_109 (fun H locs hH hz hS => ?_)
                  exact hJ_110 x_35 hp_80 _ _ _ hw hl hH hz hS
              refine lv_icmp_ge (tgt := 74) hx hb dX5_tellNames_52 (by decide) (fun hc => ?_) (fun hc => ?_)
              · have hw := hw.1 hc
                exact hJ_74 x_12 hp_13 _ _ _ hw hl hH hz hS
              · have hw := hw.2 hc
                refine zr_aload_n (r := some h0) hx hb dX5_tellNames_55 rfl (lv_at hl 0 rfl) ?_
                obtain ⟨a_81, ci_82, fs_83, r_84, er, he, hc, hv, hw⟩ := zgR_e hw
                refine zw_get hk hH er he hv (fk_X5_52 hc) dX5_tellNames_56 ?_
                refine lv_iload_n hx hb dX5_tellNames_59 rfl (lv_at hl 1 rfl) ?_
                refine lv_dup2_11 hx hb dX5_tellNames_60 rfl (z_cat _) ?_
                obtain ⟨a_85, n_86, f_87, er, he, hi, hw⟩ := zaI_e hw
                have hw := hw _ rfl
                refine zw_iald hk hH er he hi dX5_tellNames_61 ?_
                generalize f_87 x1.toNatClampNeg = x_88 at hw ⊢
                refine lv_iconst (v := (1 : Int32)) hx hb dX5_tellNames_62 (by decide) ?_
                refine zr_aload_n (r := some h0) hx hb dX5_tellNames_63 rfl (lv_at hl 0 rfl) ?_
                obtain ⟨a_89, ci_90, fs_91, r_92, er, he, hc, hv, hw⟩ := zgR_e hw
                refine zw_get hk hH er he hv (fk_X5_26 hc) dX5_tellNames_64 ?_
                refine lv_iload_n hx hb dX5_tellNames_67 rfl (lv_at hl 1 rfl) ?_
                obtain ⟨a_93, n_94, f_95, er, he, hi, hw⟩ := zaR_e hw
                have hw := hw _ rfl
                refine zw_aald hk hH 14 er he rfl rfl hi dX5_tellNames_68 ?_
                generalize f_95 x1.toNatClampNeg = r_96 at hw ⊢
                refine lv_iload_n hx hb dX5_tellNames_69 rfl (lv_at hl 2 rfl) ?_
                obtain ⟨a_97, n_98, f_99, er, he, hi, hw⟩ := zaI_e hw
                have hw := hw _ rfl
                refine zw_iald hk hH er he hi dX5_tellNames_70 ?_
                generalize f_99 x_12.toNatClampNeg = x_100 at hw ⊢
                refine lv_ishl hx hb dX5_tellNames_71 ?_
                refine lv_ior hx hb dX5_tellNames_72 ?_
                obtain ⟨a_101, n_102, f_103, er, he, hi, hA, hw⟩ := zaI_e hw
                obtain ⟨hp_104, eh⟩ : ∃ y : zHp, y = va_up hp_13 a_101 (some (.inl (g.2.1 0, n_102, .inl (va_up f_103 x1.toNatClampNeg (x_88 ||| ((1 : Int32) <<< (x_100 &&& 31))))))) := ⟨_, rfl⟩
                have hw := hw hp_104 eh
                refine zw_iast hk hH hz hS er he hi hA eh dX5_tellNames_73 (fun H locs hH hz hS => ?_)
                exact hJ_74 x_12 hp_104 _ _ _ hw hl hH hz hS
        exact hL_32 n_105 (0 : Int32) hp_10 _ _ _ hI (lv_sub hl [1, 2, 0] rfl) hH hz hS
      · have hw := hw.2 hc
        refine zr_aload_n (r := some h0) hx hb dX5_tellNames_15 rfl (lv_at hl 0 rfl) ?_
        obtain ⟨a_106, ci_107, fs_108, r_109, er, he, hc, hv, hw⟩ := zgR_e hw
        refine zw_get hk hH er he hv (fk_X5_55 hc) dX5_tellNames_16 ?_
        refine lv_iload_n hx hb dX5_tellNames_19 rfl (lv_at hl 1 rfl) ?_
        obtain ⟨a_110, n_111, f_112, er, he, hi, hw⟩ := zaR_e hw
        have hw := hw _ rfl
        refine zw_aald hk hH 14 er he rfl rfl hi dX5_tellNames_20 ?_
        generalize f_112 x1.toNatClampNeg = r_113 at hw ⊢
        refine lv_iload_n hx hb dX5_tellNames_21 rfl (lv_at hl 2 rfl) ?_
        refine lv_iconst (v := (0 : Int32)) hx hb dX5_tellNames_22 (by decide) ?_
        obtain ⟨a_114, n_115, f_116, er, he, hi, hA, hw⟩ := zaI_e hw
        obtain ⟨hp_117, eh⟩ : ∃ y : zHp, y = va_up hp_10 a_114 (some (.inl (g.2.1 0, n_115, .inl (va_up f_116 x_9.toNatClampNeg (0 : Int32))))) := ⟨_, rfl⟩
        have hw := hw hp_117 eh
        refine zw_iast hk hH hz hS er he hi hA eh dX5_tellNames_23 (fun H locs hH hz hS => ?_)
        obtain ⟨x_118, ex_118⟩ : ∃ y : Int32, y = x_9 + (1 : Int32) := ⟨_, rfl⟩
        have hw := hw x_118 ex_118
        refine lv_iinc (v := x_118) (lv' := [(2, .int x_118), (0, va_rf (some h0)), (1, .int x1)]) hx hb dX5_tellNames_24 hl (k := 2) rfl (by rw [ex_118]; rfl) (by decide) (by first | rfl | simp [List.filter_cons, z_cat, z_catI, z_catJ, z_catF, z_catD]) (fun ls hl => ?_)
        refine lv_goto (tgt := 9) hx hb dX5_tellNames_27 (by decide) ?_
        obtain ⟨k_119, hlt, hw⟩ := hw
        exact ih_9 k_119 hlt x_118 hp_117 _ _ _ hw (lv_sub hl [1, 2, 0] rfl) hH hz hS
  exact hL_9 n_120 (0 : Int32) hp_8 _ _ _ hI (lv_sub hl [1, 2, 0] rfl) hH hz hS
def wp_X5_kind (l : Launch) (g : zG) (d : Nat) (h0 : Nat) (x1 : Int32) (x2 : Int32) (hp : zHp) (nx : Nat) (Post : Int32 → zHp → Nat → Prop) : Prop :=
  (zMt l g yX5_isCell cX5_isCell 1 (some .boolean) d 0 0 [.int x1] hp nx (zQi g fun x_3 hp_1 nx_2 =>
  (∃ P_16 : zHp → Nat → Prop, (∀ (hp_4 : zHp) (nx_5 : Nat), P_16 hp_4 nx_5 →
  (Post (-2 : Int32) hp_4 nx_5)) ∧
  ((x_3 = 0 →
  P_16 hp_1 nx_2) ∧
  (¬ x_3 = 0 →
  (zMt l g yX5_in cX5_in 3 (some .boolean) d 0 0 [.int x2, .int (0 : Int32), .int (5 : Int32)] hp_1 nx_2 (zQi g fun x_8 hp_6 nx_7 =>
  ((x_8 = 0 →
  P_16 hp_6 nx_7) ∧
  (¬ x_8 = 0 →
  (zgR hp_6 (some h0) [5] 0 fun r_12 =>
  (zaI (g.2.1 0) hp_6 r_12 fun a_13 n_14 f_15 => vp_in x1 n_14 ∧ ∀ x_16 : Int32, x_16 = f_15 x1.toNatClampNeg →
  (zgR hp_6 (some h0) [5] 0 fun r_20 =>
  (zaI (g.2.1 0) hp_6 r_20 fun a_21 n_22 f_23 => vp_in x1 n_22 ∧ zB g ≤ a_21 ∧ ∀ hp_24 : zHp, hp_24 = va_up hp_6 a_21 (some (.inl (g.2.1 0, n_22, .inl (va_up f_23 x1.toNatClampNeg x2)))) →
  (zo hp_24 (some h0) [5] fun a_50 ci_51 fs_52 => zMt l g yX5_isInput cX5_isInput 2 (some .boolean) d 0 0 (.ref a_50 :: [.int x1]) hp_24 nx_7 (zQi g fun x_27 hp_25 nx_26 =>
  (∃ P_57 : Int32 → zHp → Nat → Prop, (∀ (x_28 : Int32) (hp_29 : zHp) (nx_30 : Nat), P_57 x_28 hp_29 nx_30 →
  (Post x_28 hp_29 nx_30)) ∧
  ((x_27 = 0 →
  P_57 x_16 hp_25 nx_26) ∧
  (¬ x_27 = 0 →
  (zgR hp_25 (some h0) [5] 2 fun r_34 =>
  (zgR hp_25 (some h0) [5] 2 fun r_38 =>
  (zaD (g.2.1 1) hp_25 r_38 fun a_39 n_40 f_41 => vp_in x1 n_40 ∧ ∀ x_42 : UInt64, x_42 = f_41 x1.toNatClampNeg →
  (zMt l g yX5_kept cX5_kept 3 (some .double) d 0 0 [.int x2, .double x_42] hp_25 nx_26 (zQd g fun x_45 hp_43 nx_44 =>
  (zaD (g.2.1 1) hp_43 r_34 fun a_46 n_47 f_48 => vp_in x1 n_47 ∧ zB g ≤ a_46 ∧ ∀ hp_49 : zHp, hp_49 = va_up hp_43 a_46 (some (.inl (g.2.1 1, n_47, .inr (.inr (.inr (.inl (va_up f_48 x1.toNatClampNeg x_45))))))) →
  P_57 x_16 hp_49 nx_44))))))))))))))))))))))))
set_option maxHeartbeats 40000000 in
theorem met_X5_kind {l : Launch} {g : zG} {d : Nat} {h0 : Nat} {x1 : Int32} {x2 : Int32} {hp : zHp} {nx : Nat} {Post : Int32 → zHp → Nat → Prop} (hw : wp_X5_kind l g d h0 x1 x2 hp nx Post) : zMt l g yX5_kind cX5_kind 4 (some .int) (d + 1) 0 0 [.ref h0, .int x1, .int x2] hp nx (zQi g Post) := by
  refine z_start (by decide) (Nat.le_of_ble_eq_true rfl) ?_
  intro p e s m below meth c hk hr hin hH hz ls hl
  have hx := hk.1.1
  have hb := hk.1.2.1
  have hown := hk.1.2.2.2.1
  have hts := hk.1.2.2.2.2
  have hS : va_S (zAd g) s.heap s.heap [] := va_S.rf
  have hl : lv_has ls 4 [(0, va_rf (some h0)), (1, .int x1), (2, .int x2)] := hl
  unfold wp_X5_kind at hw
  refine lv_iload_n hx hb dX5_kind_0 rfl (lv_at hl 1 rfl) ?_
  refine zr_calli (zr_runS (As := [.int x1]) hk hH hz hS hl.1 hw (va_cwS 1 hts (lw_S q2908 q2909 q162 q2910) rfl rfl rfl (by decide +kernel) (z_room (Nat.le_of_ble_eq_true rfl))) rfl rfl (Nat.le_of_ble_eq_true rfl) dX5_kind_1 ⟨Nat.le_of_ble_eq_true rfl, Nat.le_of_ble_eq_true rfl⟩) hS (fun x_3 hp_1 nx_2 hw H locs hH hz hS => ?_)
  obtain ⟨P_16, hP_16, hw⟩ := hw
  have hJ_16 : ∀ (hp_4 : zHp) (nx_5 : Nat) (H : Heap) (locs : List Loc) (ls : Array Slot), P_16 hp_4 nx_5 → lv_has ls 4 [(0, va_rf (some h0)), (1, .int x1), (2, .int x2)] → zHd g hp_4 H → H.size = nx_5 → va_S (zAd g) s.heap H locs → W p l e (zrm (d + 1) 0 0) s m ([.ref h0, .int x1, .int x2] : List Value).toArray below meth c H locs 0 0 (MQ below (zQi g Post) ([.ref h0, .int x1, .int x2] : List Value).toArray s 0 0 (zAd g)) (F0 m 16 ls []) := by
    intro hp_4 nx_5 H locs ls hw hl hH hz hS
    have hw := hP_16 hp_4 nx_5 hw
    refine lv_bipush (v := (-2 : Int32)) hx hb dX5_kind_16 (by decide) ?_
    exact zr_iret hk hr hH hz hS hw (Nat.le_of_ble_eq_true rfl) (Nat.le_of_ble_eq_true rfl) dX5_kind_18
  refine lv_if_eq (tgt := 16) hx hb dX5_kind_4 (by decide) (fun hc => ?_) (fun hc => ?_)
  · have hw := hw.1 hc
    exact hJ_16 hp_1 nx_2 _ _ _ hw hl hH hz hS
  · have hw := hw.2 hc
    refine lv_iload_n hx hb dX5_kind_7 rfl (lv_at hl 2 rfl) ?_
    refine lv_iconst (v := (0 : Int32)) hx hb dX5_kind_8 (by decide) ?_
    refine lv_iconst (v := (5 : Int32)) hx hb dX5_kind_9 (by decide) ?_
    refine zr_calli (zr_runS (As := [.int x2, .int (0 : Int32), .int (5 : Int32)]) hk hH hz hS hl.1 hw (va_cwS 3 hts (lw_S q2911 q2912 q162 q2913) rfl rfl rfl (by decide +kernel) (z_room (Nat.le_of_ble_eq_true rfl))) rfl rfl (Nat.le_of_ble_eq_true rfl) dX5_kind_10 ⟨Nat.le_of_ble_eq_true rfl, Nat.le_of_ble_eq_true rfl⟩) hS (fun x_8 hp_6 nx_7 hw H locs hH hz hS => ?_)
    refine lv_if_ne (tgt := 19) hx hb dX5_kind_13 (by decide) (fun hc => ?_) (fun hc => ?_)
    · have hw := hw.2 hc
      refine zr_aload_n (r := some h0) hx hb dX5_kind_19 rfl (lv_at hl 0 rfl) ?_
      obtain ⟨a_9, ci_10, fs_11, r_12, er, he, hc, hv, hw⟩ := zgR_e hw
      refine zw_get hk hH er he hv (fk_X5_9 hc) dX5_kind_20 ?_
      refine lv_iload_n hx hb dX5_kind_23 rfl (lv_at hl 1 rfl) ?_
      obtain ⟨a_13, n_14, f_15, er, he, hi, hw⟩ := zaI_e hw
      have hw := hw _ rfl
      refine zw_iald hk hH er he hi dX5_kind_24 ?_
      generalize f_15 x1.toNatClampNeg = x_16 at hw ⊢
      refine lv_istore_n (i := 3) (lv' := [(3, .int x_16), (0, va_rf (some h0)), (1, .int x1), (2, .int x2)]) hx hb dX5_kind_25 rfl hl (by decide) (by first | rfl | simp [List.filter_cons, z_cat, z_catI, z_catJ, z_catF, z_catD]) (fun ls hl => ?_)
      refine zr_aload_n (r := some h0) hx hb dX5_kind_26 rfl (lv_at hl 1 rfl) ?_
      obtain ⟨a_17, ci_18, fs_19, r_20, er, he, hc, hv, hw⟩ := zgR_e hw
      refine zw_get hk hH er he hv (fk_X5_9 hc) dX5_kind_27 ?_
      refine lv_iload_n hx hb dX5_kind_30 rfl (lv_at hl 2 rfl) ?_
      refine lv_iload_n hx hb dX5_kind_31 rfl (lv_at hl 3 rfl) ?_
      obtain ⟨a_21, n_22, f_23, er, he, hi, hA, hw⟩ := zaI_e hw
      obtain ⟨hp_24, eh⟩ : ∃ y : zHp, y = va_up hp_6 a_21 (some (.inl (g.2.1 0, n_22, .inl (va_up f_23 x1.toNatClampNeg x2)))) := ⟨_, rfl⟩
      have hw := hw hp_24 eh
      refine zw_iast hk hH hz hS er he hi hA eh dX5_kind_32 (fun H locs hH hz hS => ?_)
      refine zr_aload_n (r := some h0) hx hb dX5_kind_33 rfl (lv_at hl 1 rfl) ?_
      refine lv_iload_n hx hb dX5_kind_34 rfl (lv_at hl 2 rfl) ?_
      obtain ⟨a_50, ci_51, fs_52, er, he, hc, hw⟩ := zo_e hw
      obtain rfl := List.mem_singleton.mp hc
      refine zr_calli (zw_runV (As := [.int x1]) hk hH hz hS hl.1 er hw (cwV 1 hts (lw_V q2919 q2921 qs69 q162 q2922) rfl rfl rfl (by decide +kernel) (z_room (Nat.le_of_ble_eq_true rfl))) he rfl rfl rfl (Nat.le_of_ble_eq_true rfl) dX5_kind_35 ⟨Nat.le_of_ble_eq_true rfl, Nat.le_of_ble_eq_true rfl⟩) hS (fun x_27 hp_25 nx_26 hw H locs hH hz hS => ?_)
      obtain ⟨P_57, hP_57, hw⟩ := hw
      have hJ_57 : ∀ (x_28 : Int32) (hp_29 : zHp) (nx_30 : Nat) (H : Heap) (locs : List Loc) (ls : Array Slot), P_57 x_28 hp_29 nx_30 → lv_has ls 4 [(0, va_rf (some h0)), (1, .int x1), (2, .int x2), (3, .int x_28)] → zHd g hp_29 H → H.size = nx_30 → va_S (zAd g) s.heap H locs → W p l e (zrm (d + 1) 0 0) s m ([.ref h0, .int x1, .int x2] : List Value).toArray below meth c H locs 0 0 (MQ below (zQi g Post) ([.ref h0, .int x1, .int x2] : List Value).toArray s 0 0 (zAd g)) (F0 m 57 ls []) := by
        intro x_28 hp_29 nx_30 H locs ls hw hl hH hz hS
        have hw := hP_57 x_28 hp_29 nx_30 hw
        refine lv_iload_n hx hb dX5_kind_57 rfl (lv_at hl 3 rfl) ?_
        exact zr_iret hk hr hH hz hS hw (Nat.le_of_ble_eq_true rfl) (Nat.le_of_ble_eq_true rfl) dX5_kind_58
      refine lv_if_eq (tgt := 57) hx hb dX5_kind_38 (by decide) (fun hc => ?_) (fun hc => ?_)
      · have hw := hw.1 hc
        exact hJ_57 x_16 hp_25 nx_26 _ _ _ hw (lv_sub hl [1, 2, 3, 0] rfl) hH hz hS
      · have hw := hw.2 hc
        refine zr_aload_n (r := some h0) hx hb dX5_kind_41 rfl (lv_at hl 1 rfl) ?_
        obtain ⟨a_31, ci_32, fs_33, r_34, er, he, hc, hv, hw⟩ := zgR_e hw
        refine zw_get hk hH er he hv (fk_X5_17 hc) dX5_kind_42 ?_
        refine lv_iload_n hx hb dX5_kind_45 rfl (lv_at hl 2 rfl) ?_
        refine lv_iload_n hx hb dX5_kind_46 rfl (lv_at hl 3 rfl) ?_
        refine zr_aload_n (r := some h0) hx hb dX5_kind_47 rfl (lv_at hl 1 rfl) ?_
        obtain ⟨a_35, ci_36, fs_37, r_38, er, he, hc, hv, hw⟩ := zgR_e hw
        refine zw_get hk hH er he hv (fk_X5_17 hc) dX5_kind_48 ?_
        refine lv_iload_n hx hb dX5_kind_51 rfl (lv_at hl 2 rfl) ?_
        obtain ⟨a_39, n_40, f_41, er, he, hi, hw⟩ := zaD_e hw
        have hw := hw _ rfl
        refine zw_dald hk hH er he hi dX5_kind_52 ?_
        generalize f_41 x1.toNatClampNeg = x_42 at hw ⊢
        refine zr_calld (zr_runS (As := [.int x2, .double x_42]) hk hH hz hS hl.1 hw (va_cwS 2 hts (lw_S q2924 q2925 q162 q2926) rfl rfl rfl (by decide +kernel) (z_room (Nat.le_of_ble_eq_true rfl))) rfl rfl (by simp only [List.map_cons, List.map_nil, z_cat]; exact Nat.le_of_ble_eq_true rfl) dX5_kind_53 ⟨Nat.le_of_ble_eq_true rfl, Nat.le_of_ble_eq_true rfl⟩) hS (fun x_45 hp_43 nx_44 hw H locs hH hz hS => ?_)
        obtain ⟨a_46, n_47, f_48, er, he, hi, hA, hw⟩ := zaD_e hw
        obtain ⟨hp_49, eh⟩ : ∃ y : zHp, y = va_up hp_43 a_46 (some (.inl (g.2.1 1, n_47, .inr (.inr (.inr (.inl (va_up f_48 x1.toNatClampNeg x_45))))))) := ⟨_, rfl⟩
        have hw := hw hp_49 eh
        refine zw_dast hk hH hz hS er he hi hA eh dX5_kind_56 (fun H locs hH hz hS => ?_)
        exact hJ_57 x_16 hp_49 nx_44 _ _ _ hw (lv_sub hl [1, 2, 3, 0] rfl) hH hz hS
    · have hw := hw.1 hc
      exact hJ_16 hp_6 nx_7 _ _ _ hw hl hH hz hS
theorem fk_X5_81 {ci : Nat} (h : ci ∈ [5]) : zFk "WhatIfSheetModel" 81 ci 22 := by
  simp only [List.mem_cons, List.not_mem_nil, or_false] at h
  rcases h with rfl
  · exact ⟨RX5, TX5, 76, rfl, by decide, q2696⟩
theorem fk_X5_78 {ci : Nat} (h : ci ∈ [5]) : zFk "WhatIfSheetModel" 78 ci 21 := by
  simp only [List.mem_cons, List.not_mem_nil, or_false] at h
  rcases h with rfl
  · exact ⟨RX5, TX5, 76, rfl, by decide, q2695⟩
def wp_X5_told (l : Launch) (g : zG) (d : Nat) (h0 : Nat) (x1 : Int32) (x2 : Int32) (hp : zHp) (nx : Nat) (Post : Int32 → zHp → Nat → Prop) : Prop :=
  (zMt l g yX5_isCell cX5_isCell 1 (some .boolean) d 0 0 [.int x1] hp nx (zQi g fun x_3 hp_1 nx_2 =>
  (∃ P_17 : zHp → Nat → Prop, (∀ (hp_4 : zHp) (nx_5 : Nat), P_17 hp_4 nx_5 →
  (Post (-2 : Int32) hp_4 nx_5)) ∧
  ((x_3 = 0 →
  P_17 hp_1 nx_2) ∧
  (¬ x_3 = 0 →
  (zMt l g yX5_in cX5_in 3 (some .boolean) d 0 0 [.int x2, .int (0 : Int32), .int (7 : Int32)] hp_1 nx_2 (zQi g fun x_8 hp_6 nx_7 =>
  ((x_8 = 0 →
  P_17 hp_6 nx_7) ∧
  (¬ x_8 = 0 →
  ((x2 = 0 →
  (zgR hp_6 (some h0) [5] 0 fun r_90 =>
  (zaI (g.2.1 0) hp_6 r_90 fun a_91 n_92 f_93 => vp_in x1 n_92 ∧ ∀ x_94 : Int32, x_94 = f_93 x1.toNatClampNeg →
  (Post x_94 hp_6 nx_7)))) ∧
  (¬ x2 = 0 →
  ((x2 = (1 : Int32) →
  (zo hp_6 (some h0) [5] fun a_84 ci_85 fs_86 => zMt l g yX5_isInput cX5_isInput 2 (some .boolean) d 0 0 (.ref a_84 :: [.int x1]) hp_6 nx_7 (zQi g fun x_80 hp_78 nx_79 =>
  (∃ P_49 : Int32 → zHp → Nat → Prop, (∀ (x_81 : Int32) (hp_82 : zHp) (nx_83 : Nat), P_49 x_81 hp_82 nx_83 →
  (Post x_81 hp_82 nx_83)) ∧
  ((x_80 = 0 →
  P_49 (1 : Int32) hp_78 nx_79) ∧
  (¬ x_80 = 0 →
  P_49 (0 : Int32) hp_78 nx_79)))))) ∧
  (¬ x2 = (1 : Int32) →
  ((x2 = (2 : Int32) →
  (zo hp_6 (some h0) [5] fun a_75 ci_76 fs_77 => zMt l g yX5_reads cX5_reads 3 (some .int) d 0 0 (.ref a_75 :: [.int x1]) hp_6 nx_7 (zQi g fun x_74 hp_72 nx_73 =>
  (Post x_74 hp_72 nx_73)))) ∧
  (¬ x2 = (2 : Int32) →
  ((x2 = (3 : Int32) →
  (zo hp_6 (some h0) [5] fun a_69 ci_70 fs_71 => zMt l g yX5_reached cX5_reached 5 (some .int) d 0 0 (.ref a_69 :: [.int x1]) hp_6 nx_7 (zQi g fun x_68 hp_66 nx_67 =>
  (Post x_68 hp_66 nx_67)))) ∧
  (¬ x2 = (3 : Int32) →
  ((x2 = (4 : Int32) →
  (zo hp_6 (some h0) [5] fun a_63 ci_64 fs_65 => zMt l g yX5_burdenNow cX5_burdenNow 3 (some .int) d 0 0 (.ref a_63 :: [.int x1]) hp_6 nx_7 (zQi g fun x_62 hp_60 nx_61 =>
  (Post x_62 hp_60 nx_61)))) ∧
  (¬ x2 = (4 : Int32) →
  ((x2 = (7 : Int32) →
  (zo hp_6 (some h0) [5] fun a_57 ci_58 fs_59 => zMt l g yX5_isInput cX5_isInput 2 (some .boolean) d 0 0 (.ref a_57 :: [.int x1]) hp_6 nx_7 (zQi g fun x_43 hp_41 nx_42 =>
  (∃ P_111 : Int32 → zHp → Nat → Prop, (∀ (x_44 : Int32) (hp_45 : zHp) (nx_46 : Nat), P_111 x_44 hp_45 nx_46 →
  (Post x_44 hp_45 nx_46)) ∧
  (∃ P_110 : zHp → Nat → Prop, (∀ (hp_47 : zHp) (nx_48 : Nat), P_110 hp_47 nx_48 →
  P_111 (0 : Int32) hp_47 nx_48) ∧
  ((x_43 = 0 →
  P_110 hp_41 nx_42) ∧
  (¬ x_43 = 0 →
  (zgR hp_41 (some h0) [5] 1 fun r_52 =>
  (zaI (g.2.1 3) hp_41 r_52 fun a_53 n_54 f_55 => vp_in x1 n_54 ∧ ∀ x_56 : Int32, x_56 = f_55 x1.toNatClampNeg →
  ((x_56 = 0 →
  P_111 (1 : Int32) hp_41 nx_42) ∧
  (¬ x_56 = 0 →
  P_110 hp_41 nx_42))))))))))) ∧
  (¬ x2 = (7 : Int32) →
  (zo hp_6 (some h0) [5] fun a_38 ci_39 fs_40 => zMt l g yX5_tellNow cX5_tellNow 2 none d 0 0 (.ref a_38 :: [.int x1]) hp_6 nx_7 (zQv g fun hp_9 nx_10 =>
  (∃ P_141 : Int32 → zHp → Nat → Prop, (∀ (x_11 : Int32) (hp_12 : zHp) (nx_13 : Nat), P_141 x_11 hp_12 nx_13 →
  (Post x_11 hp_12 nx_13)) ∧
  ((x2 = (5 : Int32) →
  (zgR hp_9 (some h0) [5] 21 fun r_29 =>
  (zaR (g.2.1 14) hp_9 r_29 fun a_30 n_31 f_32 => vp_in (0 : Int32) n_31 ∧ ∀ r_33 : Option Nat, r_33 = f_32 (0 : Int32).toNatClampNeg →
  (zaI (g.2.1 0) hp_9 r_33 fun a_34 n_35 f_36 => vp_in x1 n_35 ∧ ∀ x_37 : Int32, x_37 = f_36 x1.toNatClampNeg →
  P_141 x_37 hp_9 nx_10)))) ∧
  (¬ x2 = (5 : Int32) →
  (zgR hp_9 (some h0) [5] 22 fun r_17 =>
  (zaR (g.2.1 14) hp_9 r_17 fun a_18 n_19 f_20 => vp_in (0 : Int32) n_19 ∧ ∀ r_21 : Option Nat, r_21 = f_20 (0 : Int32).toNatClampNeg →
  (zaI (g.2.1 0) hp_9 r_21 fun a_22 n_23 f_24 => vp_in x1 n_23 ∧ ∀ x_25 : Int32, x_25 = f_24 x1.toNatClampNeg →
  P_141 x_25 hp_9 nx_10)))))))))))))))))))))))))))))
set_option maxHeartbeats 40000000 in
theorem met_X5_told {l : Launch} {g : zG} {d : Nat} {h0 : Nat} {x1 : Int32} {x2 : Int32} {hp : zHp} {nx : Nat} {Post : Int32 → zHp → Nat → Prop} (hw : wp_X5_told l g d h0 x1 x2 hp nx Post) : zMt l g yX5_told cX5_told 3 (some .int) (d + 1) 0 0 [.ref h0, .int x1, .int x2] hp nx (zQi g Post) := by
  refine z_start (by decide) (Nat.le_of_ble_eq_true rfl) ?_
  intro p e s m below meth c hk hr hin hH hz ls hl
  have hx := hk.1.1
  have hb := hk.1.2.1
  have hown := hk.1.2.2.2.1
  have hts := hk.1.2.2.2.2
  have hS : va_S (zAd g) s.heap s.heap [] := va_S.rf
  have hl : lv_has ls 3 [(0, va_rf (some h0)), (1, .int x1), (2, .int x2)] := hl
  unfold wp_X5_told at hw
  refine lv_iload_n hx hb dX5_told_0 rfl (lv_at hl 1 rfl) ?_
  refine zr_calli (zr_runS (As := [.int x1]) hk hH hz hS hl.1 hw (va_cwS 1 hts (lw_S q2908 q2909 q162 q2910) rfl rfl rfl (by decide +kernel) (z_room (Nat.le_of_ble_eq_true rfl))) rfl rfl (Nat.le_of_ble_eq_true rfl) dX5_told_1 ⟨Nat.le_of_ble_eq_true rfl, Nat.le_of_ble_eq_true rfl⟩) hS (fun x_3 hp_1 nx_2 hw H locs hH hz hS => ?_)
  obtain ⟨P_17, hP_17, hw⟩ := hw
  have hJ_17 : ∀ (hp_4 : zHp) (nx_5 : Nat) (H : Heap) (locs : List Loc) (ls : Array Slot), P_17 hp_4 nx_5 → lv_has ls 3 [(0, va_rf (some h0)), (1, .int x1), (2, .int x2)] → zHd g hp_4 H → H.size = nx_5 → va_S (zAd g) s.heap H locs → W p l e (zrm (d + 1) 0 0) s m ([.ref h0, .int x1, .int x2] : List Value).toArray below meth c H locs 0 0 (MQ below (zQi g Post) ([.ref h0, .int x1, .int x2] : List Value).toArray s 0 0 (zAd g)) (F0 m 17 ls []) := by
    intro hp_4 nx_5 H locs ls hw hl hH hz hS
    have hw := hP_17 hp_4 nx_5 hw
    refine lv_bipush (v := (-2 : Int32)) hx hb dX5_told_17 (by decide) ?_
    exact zr_iret hk hr hH hz hS hw (Nat.le_of_ble_eq_true rfl) (Nat.le_of_ble_eq_true rfl) dX5_told_19
  refine lv_if_eq (tgt := 17) hx hb dX5_told_4 (by decide) (fun hc => ?_) (fun hc => ?_)
  · have hw := hw.1 hc
    exact hJ_17 hp_1 nx_2 _ _ _ hw hl hH hz hS
  · have hw := hw.2 hc
    refine lv_iload_n hx hb dX5_told_7 rfl (lv_at hl 2 rfl) ?_
    refine lv_iconst (v := (0 : Int32)) hx hb dX5_told_8 (by decide) ?_
    refine lv_bipush (v := (7 : Int32)) hx hb dX5_told_9 (by decide) ?_
    refine zr_calli (zr_runS (As := [.int x2, .int (0 : Int32), .int (7 : Int32)]) hk hH hz hS hl.1 hw (va_cwS 3 hts (lw_S q2911 q2912 q162 q2913) rfl rfl rfl (by decide +kernel) (z_room (Nat.le_of_ble_eq_true rfl))) rfl rfl (Nat.le_of_ble_eq_true rfl) dX5_told_11 ⟨Nat.le_of_ble_eq_true rfl, Nat.le_of_ble_eq_true rfl⟩) hS (fun x_8 hp_6 nx_7 hw H locs hH hz hS => ?_)
    refine lv_if_ne (tgt := 20) hx hb dX5_told_14 (by decide) (fun hc => ?_) (fun hc => ?_)
    · have hw := hw.2 hc
      refine lv_iload_n hx hb dX5_told_20 rfl (lv_at hl 2 rfl) ?_
      refine lv_if_ne (tgt := 31) hx hb dX5_told_21 (by decide) (fun hc => ?_) (fun hc => ?_)
      · have hw := hw.2 hc
        refine lv_iload_n hx hb dX5_told_31 rfl (lv_at hl 2 rfl) ?_
        refine lv_iconst (v := (1 : Int32)) hx hb dX5_told_32 (by decide) ?_
        refine lv_icmp_ne (tgt := 50) hx hb dX5_told_33 (by decide) (fun hc => ?_) (fun hc => ?_)
        · have hw := hw.2 hc
          refine lv_iload_n hx hb dX5_told_50 rfl (lv_at hl 2 rfl) ?_
          refine lv_iconst (v := (2 : Int32)) hx hb dX5_told_51 (by decide) ?_
          refine lv_icmp_ne (tgt := 61) hx hb dX5_told_52 (by decide) (fun hc => ?_) (fun hc => ?_)
          · have hw := hw.2 hc
            refine lv_iload_n hx hb dX5_told_61 rfl (lv_at hl 2 rfl) ?_
            refine lv_iconst (v := (3 : Int32)) hx hb dX5_told_62 (by decide) ?_
            refine lv_icmp_ne (tgt := 72) hx hb dX5_told_63 (by decide) (fun hc => ?_) (fun hc => ?_)
            · have hw := hw.2 hc
              refine lv_iload_n hx hb dX5_told_72 rfl (lv_at hl 2 rfl) ?_
              refine lv_iconst (v := (4 : Int32)) hx hb dX5_told_73 (by decide) ?_
              refine lv_icmp_ne (tgt := 83) hx hb dX5_told_74 (by decide) (fun hc => ?_) (fun hc => ?_)
              · have hw := hw.2 hc
                refine lv_iload_n hx hb dX5_told_83 rfl (lv_at hl 2 rfl) ?_
                refine lv_bipush (v := (7 : Int32)) hx hb dX5_told_84 (by decide) ?_
                refine lv_icmp_ne (tgt := 112) hx hb dX5_told_86 (by decide) (fun hc => ?_) (fun hc => ?_)
                · have hw := hw.2 hc
                  refine zr_aload_n (r := some h0) hx hb dX5_told_112 rfl (lv_at hl 0 rfl) ?_
                  refine lv_iload_n hx hb dX5_told_113 rfl (lv_at hl 1 rfl) ?_
                  obtain ⟨a_38, ci_39, fs_40, er, he, hc, hw⟩ := zo_e hw
                  obtain rfl := List.mem_singleton.mp hc
                  refine zr_callv (zw_runV (As := [.int x1]) hk hH hz hS hl.1 er hw (cwV 1 hts (lw_V q2995 q2997 qs81 q162 q2998) rfl rfl rfl (by decide +kernel) (z_room (Nat.le_of_ble_eq_true rfl))) he rfl rfl rfl (Nat.le_of_ble_eq_true rfl) dX5_told_114 ⟨Nat.le_of_ble_eq_true rfl, Nat.le_of_ble_eq_true rfl⟩) hS (fun hp_9 nx_10 hw H locs hH hz hS => ?_)
                  refine lv_iload_n hx hb dX5_told_117 rfl (lv_at hl 2 rfl) ?_
                  refine lv_iconst (v := (5 : Int32)) hx hb dX5_told_118 (by decide) ?_
                  obtain ⟨P_141, hP_141, hw⟩ := hw
                  have hJ_141 : ∀ (x_11 : Int32) (hp_12 : zHp) (nx_13 : Nat) (H : Heap) (locs : List Loc) (ls : Array Slot), P_141 x_11 hp_12 nx_13 → lv_has ls 3 [(0, va_rf (some h0)), (1, .int x1), (2, .int x2)] → zHd g hp_12 H → H.size = nx_13 → va_S (zAd g) s.heap H locs → W p l e (zrm (d + 1) 0 0) s m ([.ref h0, .int x1, .int x2] : List Value).toArray below meth c H locs 0 0 (MQ below (zQi g Post) ([.ref h0, .int x1, .int x2] : List Value).toArray s 0 0 (zAd g)) (F0 m 141 ls [.int x_11]) := by
                    intro x_11 hp_12 nx_13 H locs ls hw hl hH hz hS
                    have hw := hP_141 x_11 hp_12 nx_13 hw
                    exact zr_iret hk hr hH hz hS hw (Nat.le_of_ble_eq_true rfl) (Nat.le_of_ble_eq_true rfl) dX5_told_141
                  refine lv_icmp_ne (tgt := 133) hx hb dX5_told_119 (by decide) (fun hc => ?_) (fun hc => ?_)
                  · have hw := hw.2 hc
                    refine zr_aload_n (r := some h0) hx hb dX5_told_133 rfl (lv_at hl 0 rfl) ?_
                    obtain ⟨a_14, ci_15, fs_16, r_17, er, he, hc, hv, hw⟩ := zgR_e hw
                    refine zw_get hk hH er he hv (fk_X5_81 hc) dX5_told_134 ?_
                    refine lv_iconst (v := (0 : Int32)) hx hb dX5_told_137 (by decide) ?_
                    obtain ⟨a_18, n_19, f_20, er, he, hi, hw⟩ := zaR_e hw
                    have hw := hw _ rfl
                    refine zw_aald hk hH 14 er he rfl rfl hi dX5_told_138 ?_
                    generalize f_20 (0 : Int32).toNatClampNeg = r_21 at hw ⊢
                    refine lv_iload_n hx hb dX5_told_139 rfl (lv_at hl 1 rfl) ?_
                    obtain ⟨a_22, n_23, f_24, er, he, hi, hw⟩ := zaI_e hw
                    have hw := hw _ rfl
                    refine zw_iald hk hH er he hi dX5_told_140 ?_
                    generalize f_24 x1.toNatClampNeg = x_25 at hw ⊢
                    exact hJ_141 x_25 hp_9 nx_10 _ _ _ hw hl hH hz hS
                  · have hw := hw.1 hc
                    refine zr_aload_n (r := some h0) hx hb dX5_told_122 rfl (lv_at hl 0 rfl) ?_
                    obtain ⟨a_26, ci_27, fs_28, r_29, er, he, hc, hv, hw⟩ := zgR_e hw
                    refine zw_get hk hH er he hv (fk_X5_78 hc) dX5_told_123 ?_
                    refine lv_iconst (v := (0 : Int32)) hx hb dX5_told_126 (by decide) ?_
                    obtain ⟨a_30, n_31, f_32, er, he, hi, hw⟩ := zaR_e hw
                    have hw := hw _ rfl
                    refine zw_aald hk hH 14 er he rfl rfl hi dX5_told_127 ?_
                    generalize f_32 (0 : Int32).toNatClampNeg = r_33 at hw ⊢
                    refine lv_iload_n hx hb dX5_told_128 rfl (lv_at hl 1 rfl) ?_
                    obtain ⟨a_34, n_35, f_36, er, he, hi, hw⟩ := zaI_e hw
                    have hw := hw _ rfl
                    refine zw_iald hk hH er he hi dX5_told_129 ?_
                    generalize f_36 x1.toNatClampNeg = x_37 at hw ⊢
                    refine lv_goto (tgt := 141) hx hb dX5_told_130 (by decide) ?_
                    exact hJ_141 x_37 hp_9 nx_10 _ _ _ hw hl hH hz hS
                · have hw := hw.1 hc
                  refine zr_aload_n (r := some h0) hx hb dX5_told_89 rfl (lv_at hl 0 rfl) ?_
                  refine lv_iload_n hx hb dX5_told_90 rfl (lv_at hl 1 rfl) ?_
                  obtain ⟨a_57, ci_58, fs_59, er, he, hc, hw⟩ := zo_e hw
                  obtain rfl := List.mem_singleton.mp hc
                  refine zr_calli (zw_runV (As := [.int x1]) hk hH hz hS hl.1 er hw (cwV 1 hts (lw_V q2919 q2921 qs69 q162 q2922) rfl rfl rfl (by decide +kernel) (z_room (Nat.le_of_ble_eq_true rfl))) he rfl rfl rfl (Nat.le_of_ble_eq_true rfl) dX5_told_91 ⟨Nat.le_of_ble_eq_true rfl, Nat.le_of_ble_eq_true rfl⟩) hS (fun x_43 hp_41 nx_42 hw H locs hH hz hS => ?_)
                  obtain ⟨P_111, hP_111, hw⟩ := hw
                  have hJ_111 : ∀ (x_44 : Int32) (hp_45 : zHp) (nx_46 : Nat) (H : Heap) (locs : List Loc) (ls : Array Slot), P_111 x_44 hp_45 nx_46 → lv_has ls 3 [(0, va_rf (some h0)), (1, .int x1), (2, .int x2)] → zHd g hp_45 H → H.size = nx_46 → va_S (zAd g) s.heap H locs → W p l e (zrm (d + 1) 0 0) s m ([.ref h0, .int x1, .int x2] : List Value).toArray below meth c H locs 0 0 (MQ below (zQi g Post) ([.ref h0, .int x1, .int x2] : List Value).toArray s 0 0 (zAd g)) (F0 m 111 ls [.int x_44]) := by
                    intro x_44 hp_45 nx_46 H locs ls hw hl hH hz hS
                    have hw := hP_111 x_44 hp_45 nx_46 hw
                    exact zr_iret hk hr hH hz hS hw (Nat.le_of_ble_eq_true rfl) (Nat.le_of_ble_eq_true rfl) dX5_told_111
                  obtain ⟨P_110, hP_110, hw⟩ := hw
                  have hJ_110 : ∀ (hp_47 : zHp) (nx_48 : Nat) (H : Heap) (locs : List Loc) (ls : Array Slot), P_110 hp_47 nx_48 → lv_has ls 3 [(0, va_rf (some h0)), (1, .int x1), (2, .int x2)] → zHd g hp_47 H → H.size = nx_48 → va_S (zAd g) s.heap H locs → W p l e (zrm (d + 1) 0 0) s m ([.ref h0, .int x1, .int x2] : List Value).toArray below meth c H locs 0 0 (MQ below (zQi g Post) ([.ref h0, .int x1, .int x2] : List Value).toArray s 0 0 (zAd g)) (F0 m 110 ls []) := by
                    intro hp_47 nx_48 H locs ls hw hl hH hz hS
                    have hw := hP_110 hp_47 nx_48 hw
                    refine lv_iconst (v := (0 : Int32)) hx hb dX5_told_110 (by decide) ?_
                    exact hJ_111 (0 : Int32) hp_47 nx_48 _ _ _ hw hl hH hz hS
                  refine lv_if_eq (tgt := 110) hx hb dX5_told_94 (by decide) (fun hc => ?_) (fun hc => ?_)
                  · have hw := hw.1 hc
                    exact hJ_110 hp_41 nx_42 _ _ _ hw hl hH hz hS
                  · have hw := hw.2 hc
                    refine zr_aload_n (r := some h0) hx hb dX5_told_97 rfl (lv_at hl 0 rfl) ?_
                    obtain ⟨a_49, ci_50, fs_51, r_52, er, he, hc, hv, hw⟩ := zgR_e hw
                    refine zw_get hk hH er he hv (fk_X5_13 hc) dX5_told_98 ?_
                    refine lv_iload_n hx hb dX5_told_101 rfl (lv_at hl 1 rfl) ?_
                    obtain ⟨a_53, n_54, f_55, er, he, hi, hw⟩ := zaI_e hw
                    have hw := hw _ rfl
                    refine zw_zald hk hH er he hi dX5_told_102 ?_
                    generalize f_55 x1.toNatClampNeg = x_56 at hw ⊢
                    refine lv_if_ne (tgt := 110) hx hb dX5_told_103 (by decide) (fun hc => ?_) (fun hc => ?_)
                    · have hw := hw.2 hc
                      exact hJ_110 hp_41 nx_42 _ _ _ hw hl hH hz hS
                    · have hw := hw.1 hc
                      refine lv_iconst (v := (1 : Int32)) hx hb dX5_told_106 (by decide) ?_
                      refine lv_goto (tgt := 111) hx hb dX5_told_107 (by decide) ?_
                      exact hJ_111 (1 : Int32) hp_41 nx_42 _ _ _ hw hl hH hz hS
              · have hw := hw.1 hc
                refine zr_aload_n (r := some h0) hx hb dX5_told_77 rfl (lv_at hl 0 rfl) ?_
                refine lv_iload_n hx hb dX5_told_78 rfl (lv_at hl 1 rfl) ?_
                obtain ⟨a_63, ci_64, fs_65, er, he, hc, hw⟩ := zo_e hw
                obtain rfl := List.mem_singleton.mp hc
                refine zr_calli (zw_runV (As := [.int x1]) hk hH hz hS hl.1 er hw (cwV 1 hts (lw_V q2973 q2975 qs77 q162 q2976) rfl rfl rfl (by decide +kernel) (z_room (Nat.le_of_ble_eq_true rfl))) he rfl rfl rfl (Nat.le_of_ble_eq_true rfl) dX5_told_79 ⟨Nat.le_of_ble_eq_true rfl, Nat.le_of_ble_eq_true rfl⟩) hS (fun x_62 hp_60 nx_61 hw H locs hH hz hS => ?_)
                exact zr_iret hk hr hH hz hS hw (Nat.le_of_ble_eq_true rfl) (Nat.le_of_ble_eq_true rfl) dX5_told_82
            · have hw := hw.1 hc
              refine zr_aload_n (r := some h0) hx hb dX5_told_66 rfl (lv_at hl 0 rfl) ?_
              refine lv_iload_n hx hb dX5_told_67 rfl (lv_at hl 1 rfl) ?_
              obtain ⟨a_69, ci_70, fs_71, er, he, hc, hw⟩ := zo_e hw
              obtain rfl := List.mem_singleton.mp hc
              refine zr_calli (zw_runV (As := [.int x1]) hk hH hz hS hl.1 er hw (cwV 1 hts (lw_V q2969 q2971 qs76 q162 q2972) rfl rfl rfl (by decide +kernel) (z_room (Nat.le_of_ble_eq_true rfl))) he rfl rfl rfl (Nat.le_of_ble_eq_true rfl) dX5_told_68 ⟨Nat.le_of_ble_eq_true rfl, Nat.le_of_ble_eq_true rfl⟩) hS (fun x_68 hp_66 nx_67 hw H locs hH hz hS => ?_)
              exact zr_iret hk hr hH hz hS hw (Nat.le_of_ble_eq_true rfl) (Nat.le_of_ble_eq_true rfl) dX5_told_71
          · have hw := hw.1 hc
            refine zr_aload_n (r := some h0) hx hb dX5_told_55 rfl (lv_at hl 0 rfl) ?_
            refine lv_iload_n hx hb dX5_told_56 rfl (lv_at hl 1 rfl) ?_
            obtain ⟨a_75, ci_76, fs_77, er, he, hc, hw⟩ := zo_e hw
            obtain rfl := List.mem_singleton.mp hc
            refine zr_calli (zw_runV (As := [.int x1]) hk hH hz hS hl.1 er hw (cwV 1 hts (lw_V q2949 q2951 qs71 q162 q2952) rfl rfl rfl (by decide +kernel) (z_room (Nat.le_of_ble_eq_true rfl))) he rfl rfl rfl (Nat.le_of_ble_eq_true rfl) dX5_told_57 ⟨Nat.le_of_ble_eq_true rfl, Nat.le_of_ble_eq_true rfl⟩) hS (fun x_74 hp_72 nx_73 hw H locs hH hz hS => ?_)
            exact zr_iret hk hr hH hz hS hw (Nat.le_of_ble_eq_true rfl) (Nat.le_of_ble_eq_true rfl) dX5_told_60
        · have hw := hw.1 hc
          refine zr_aload_n (r := some h0) hx hb dX5_told_36 rfl (lv_at hl 0 rfl) ?_
          refine lv_iload_n hx hb dX5_told_37 rfl (lv_at hl 1 rfl) ?_
          obtain ⟨a_84, ci_85, fs_86, er, he, hc, hw⟩ := zo_e hw
          obtain rfl := List.mem_singleton.mp hc
          refine zr_calli (zw_runV (As := [.int x1]) hk hH hz hS hl.1 er hw (cwV 1 hts (lw_V q2919 q2921 qs69 q162 q2922) rfl rfl rfl (by decide +kernel) (z_room (Nat.le_of_ble_eq_true rfl))) he rfl rfl rfl (Nat.le_of_ble_eq_true rfl) dX5_told_38 ⟨Nat.le_of_ble_eq_true rfl, Nat.le_of_ble_eq_true rfl⟩) hS (fun x_80 hp_78 nx_79 hw H locs hH hz hS => ?_)
          obtain ⟨P_49, hP_49, hw⟩ := hw
          have hJ_49 : ∀ (x_81 : Int32) (hp_82 : zHp) (nx_83 : Nat) (H : Heap) (locs : List Loc) (ls : Array Slot), P_49 x_81 hp_82 nx_83 → lv_has ls 3 [(0, va_rf (some h0)), (1, .int x1), (2, .int x2)] → zHd g hp_82 H → H.size = nx_83 → va_S (zAd g) s.heap H locs → W p l e (zrm (d + 1) 0 0) s m ([.ref h0, .int x1, .int x2] : List Value).toArray below meth c H locs 0 0 (MQ below (zQi g Post) ([.ref h0, .int x1, .int x2] : List Value).toArray s 0 0 (zAd g)) (F0 m 49 ls [.int x_81]) := by
            intro x_81 hp_82 nx_83 H locs ls hw hl hH hz hS
            have hw := hP_49 x_81 hp_82 nx_83 hw
            exact zr_iret hk hr hH hz hS hw (Nat.le_of_ble_eq_true rfl) (Nat.le_of_ble_eq_true rfl) dX5_told_49
          refine lv_if_eq (tgt := 48) hx hb dX5_told_41 (by decide) (fun hc => ?_) (fun hc => ?_)
          · have hw := hw.1 hc
            refine lv_iconst (v := (1 : Int32)) hx hb dX5_told_48 (by decide) ?_
            exact hJ_49 (1 : Int32) hp_78 nx_79 _ _ _ hw hl hH hz hS
          · have hw := hw.2 hc
            refine lv_iconst (v := (0 : Int32)) hx hb dX5_told_44 (by decide) ?_
            refine lv_goto (tgt := 49) hx hb dX5_told_45 (by decide) ?_
            exact hJ_49 (0 : Int32) hp_78 nx_79 _ _ _ hw hl hH hz hS
      · have hw := hw.1 hc
        refine zr_aload_n (r := some h0) hx hb dX5_told_24 rfl (lv_at hl 0 rfl) ?_
        obtain ⟨a_87, ci_88, fs_89, r_90, er, he, hc, hv, hw⟩ := zgR_e hw
        refine zw_get hk hH er he hv (fk_X5_9 hc) dX5_told_25 ?_
        refine lv_iload_n hx hb dX5_told_28 rfl (lv_at hl 1 rfl) ?_
        obtain ⟨a_91, n_92, f_93, er, he, hi, hw⟩ := zaI_e hw
        have hw := hw _ rfl
        refine zw_iald hk hH er he hi dX5_told_29 ?_
        generalize f_93 x1.toNatClampNeg = x_94 at hw ⊢
        exact zr_iret hk hr hH hz hS hw (Nat.le_of_ble_eq_true rfl) (Nat.le_of_ble_eq_true rfl) dX5_told_30
    · have hw := hw.1 hc
      exact hJ_17 hp_6 nx_7 _ _ _ hw hl hH hz hS
theorem fk_X5_58 {ci : Nat} (h : ci ∈ [5]) : zFk "WhatIfSheetModel" 58 ci 14 := by
  simp only [List.mem_cons, List.not_mem_nil, or_false] at h
  rcases h with rfl
  · exact ⟨RX5, TX5, 76, rfl, by decide, q2688⟩
def wp_X5_reads (l : Launch) (g : zG) (d : Nat) (h0 : Nat) (x1 : Int32) (hp : zHp) (nx : Nat) (Post : Int32 → zHp → Nat → Prop) : Prop :=
  (∃ I_2 : Nat → Int32 → zHp → Nat → Prop, (∃ n_21, I_2 n_21 (0 : Int32) hp nx) ∧ ∀ (n_4 : Nat) (x_1 : Int32) (hp_2 : zHp) (nx_3 : Nat), I_2 n_4 x_1 hp_2 nx_3 →
  (((24 : Int32) ≤ x_1 →
  (zo hp_2 (some h0) [5] fun a_8 ci_9 fs_10 => zMt l g yX5_readOf cX5_readOf 4 (some .int) d 0 0 (.ref a_8 :: [.int x1]) hp_2 nx_3 (zQi g fun x_7 hp_5 nx_6 =>
  (Post x_7 hp_5 nx_6)))) ∧
  (¬ (24 : Int32) ≤ x_1 →
  (zgR hp_2 (some h0) [5] 14 fun r_14 =>
  (zaI (g.2.1 3) hp_2 r_14 fun a_15 n_16 f_17 => vp_in x_1 n_16 ∧ zB g ≤ a_15 ∧ ∀ hp_18 : zHp, hp_18 = va_up hp_2 a_15 (some (.inl (g.2.1 3, n_16, .inl (va_up f_17 x_1.toNatClampNeg (vp_nar .boolean (0 : Int32)))))) →
  (∀ x_19 : Int32, x_19 = x_1 + (1 : Int32) →
  (∃ k_20, k_20 < n_4 ∧ I_2 k_20 x_19 hp_18 nx_3)))))))
set_option maxHeartbeats 40000000 in
theorem met_X5_reads {l : Launch} {g : zG} {d : Nat} {h0 : Nat} {x1 : Int32} {hp : zHp} {nx : Nat} {Post : Int32 → zHp → Nat → Prop} (hw : wp_X5_reads l g d h0 x1 hp nx Post) : zMt l g yX5_reads cX5_reads 3 (some .int) (d + 1) 0 0 [.ref h0, .int x1] hp nx (zQi g Post) := by
  refine z_start (by decide) (Nat.le_of_ble_eq_true rfl) ?_
  intro p e s m below meth c hk hr hin hH hz ls hl
  have hx := hk.1.1
  have hb := hk.1.2.1
  have hown := hk.1.2.2.2.1
  have hts := hk.1.2.2.2.2
  have hS : va_S (zAd g) s.heap s.heap [] := va_S.rf
  have hl : lv_has ls 3 [(0, va_rf (some h0)), (1, .int x1)] := hl
  unfold wp_X5_reads at hw
  refine lv_iconst (v := (0 : Int32)) hx hb dX5_reads_0 (by decide) ?_
  refine lv_istore_n (i := 2) (lv' := [(2, .int (0 : Int32)), (0, va_rf (some h0)), (1, .int x1)]) hx hb dX5_reads_1 rfl hl (by decide) (by first | rfl | simp [List.filter_cons, z_cat, z_catI, z_catJ, z_catF, z_catD]) (fun ls hl => ?_)
  obtain ⟨I_2, ⟨n_21, hI⟩, hB_2⟩ := hw
  have hL_2 : ∀ (n_4 : Nat) (x_1 : Int32) (hp_2 : zHp) (nx_3 : Nat) (H : Heap) (locs : List Loc) (ls : Array Slot), I_2 n_4 x_1 hp_2 nx_3 → lv_has ls 3 [(0, va_rf (some h0)), (1, .int x1), (2, .int x_1)] → zHd g hp_2 H → H.size = nx_3 → va_S (zAd g) s.heap H locs → W p l e (zrm (d + 1) 0 0) s m ([.ref h0, .int x1] : List Value).toArray below meth c H locs 0 0 (MQ below (zQi g Post) ([.ref h0, .int x1] : List Value).toArray s 0 0 (zAd g)) (F0 m 2 ls []) := by
    intro n_4
    induction n_4 using Nat.strongRecOn with
    | _ n_4 ih_2 =>
      intro x_1 hp_2 nx_3 H locs ls hw hl hH hz hS
      have hw := hB_2 n_4 x_1 hp_2 nx_3 hw
      refine lv_iload_n hx hb dX5_reads_2 rfl (lv_at hl 2 rfl) ?_
      refine lv_bipush (v := (24 : Int32)) hx hb dX5_reads_3 (by decide) ?_
      refine lv_icmp_ge (tgt := 21) hx hb dX5_reads_5 (by decide) (fun hc => ?_) (fun hc => ?_)
      · have hw := hw.1 hc
        refine zr_aload_n (r := some h0) hx hb dX5_reads_21 rfl (lv_at hl 0 rfl) ?_
        refine lv_iload_n hx hb dX5_reads_22 rfl (lv_at hl 1 rfl) ?_
        obtain ⟨a_8, ci_9, fs_10, er, he, hc, hw⟩ := zo_e hw
        obtain rfl := List.mem_singleton.mp hc
        refine zr_calli (zw_runV (As := [.int x1]) hk hH hz hS hl.1 er hw (cwV 1 hts (lw_V q2953 q2955 qs72 q162 q2956) rfl rfl rfl (by decide +kernel) (z_room (Nat.le_of_ble_eq_true rfl))) he rfl rfl rfl (Nat.le_of_ble_eq_true rfl) dX5_reads_23 ⟨Nat.le_of_ble_eq_true rfl, Nat.le_of_ble_eq_true rfl⟩) hS (fun x_7 hp_5 nx_6 hw H locs hH hz hS => ?_)
        exact zr_iret hk hr hH hz hS hw (Nat.le_of_ble_eq_true rfl) (Nat.le_of_ble_eq_true rfl) dX5_reads_26
      · have hw := hw.2 hc
        refine zr_aload_n (r := some h0) hx hb dX5_reads_8 rfl (lv_at hl 0 rfl) ?_
        obtain ⟨a_11, ci_12, fs_13, r_14, er, he, hc, hv, hw⟩ := zgR_e hw
        refine zw_get hk hH er he hv (fk_X5_58 hc) dX5_reads_9 ?_
        refine lv_iload_n hx hb dX5_reads_12 rfl (lv_at hl 2 rfl) ?_
        refine lv_iconst (v := (0 : Int32)) hx hb dX5_reads_13 (by decide) ?_
        obtain ⟨a_15, n_16, f_17, er, he, hi, hA, hw⟩ := zaI_e hw
        obtain ⟨hp_18, eh⟩ : ∃ y : zHp, y = va_up hp_2 a_15 (some (.inl (g.2.1 3, n_16, .inl (va_up f_17 x_1.toNatClampNeg (vp_nar .boolean (0 : Int32)))))) := ⟨_, rfl⟩
        have hw := hw hp_18 eh
        refine zw_zast hk hH hz hS er he hi hA eh dX5_reads_14 (fun H locs hH hz hS => ?_)
        obtain ⟨x_19, ex_19⟩ : ∃ y : Int32, y = x_1 + (1 : Int32) := ⟨_, rfl⟩
        have hw := hw x_19 ex_19
        refine lv_iinc (v := x_19) (lv' := [(2, .int x_19), (0, va_rf (some h0)), (1, .int x1)]) hx hb dX5_reads_15 hl (k := 2) rfl (by rw [ex_19]; rfl) (by decide) (by first | rfl | simp [List.filter_cons, z_cat, z_catI, z_catJ, z_catF, z_catD]) (fun ls hl => ?_)
        refine lv_goto (tgt := 2) hx hb dX5_reads_18 (by decide) ?_
        obtain ⟨k_20, hlt, hw⟩ := hw
        exact ih_2 k_20 hlt x_19 hp_18 nx_3 _ _ _ hw (lv_sub hl [1, 2, 0] rfl) hH hz hS
  exact hL_2 n_21 (0 : Int32) hp nx _ _ _ hI (lv_sub hl [1, 2, 0] rfl) hH hz hS
theorem fk_X5_61 {ci : Nat} (h : ci ∈ [5]) : zFk "WhatIfSheetModel" 61 ci 15 := by
  simp only [List.mem_cons, List.not_mem_nil, or_false] at h
  rcases h with rfl
  · exact ⟨RX5, TX5, 76, rfl, by decide, q2689⟩
theorem fk_X5_34 {ci : Nat} (h : ci ∈ [5]) : zFk "WhatIfSheetModel" 34 ci 6 := by
  simp only [List.mem_cons, List.not_mem_nil, or_false] at h
  rcases h with rfl
  · exact ⟨RX5, TX5, 76, rfl, by decide, q2680⟩
theorem fk_X5_37 {ci : Nat} (h : ci ∈ [5]) : zFk "WhatIfSheetModel" 37 ci 7 := by
  simp only [List.mem_cons, List.not_mem_nil, or_false] at h
  rcases h with rfl
  · exact ⟨RX5, TX5, 76, rfl, by decide, q2681⟩
def wp_X5_readOf (l : Launch) (g : zG) (d : Nat) (h0 : Nat) (x1 : Int32) (hp : zHp) (nx : Nat) (Post : Int32 → zHp → Nat → Prop) : Prop :=
  (zgR hp (some h0) [5] 14 fun r_4 =>
  (zaI (g.2.1 3) hp r_4 fun a_5 n_6 f_7 => vp_in x1 n_6 ∧ ∀ x_8 : Int32, x_8 = f_7 x1.toNatClampNeg →
  ((x_8 = 0 →
  (zo hp (some h0) [5] fun a_103 ci_104 fs_105 => zMt l g yX5_isInput cX5_isInput 2 (some .boolean) d 0 0 (.ref a_103 :: [.int x1]) hp nx (zQi g fun x_11 hp_9 nx_10 =>
  (∃ P_31 : Int32 → zHp → Nat → Prop, (∀ (x_12 : Int32) (hp_13 : zHp) (nx_14 : Nat), P_31 x_12 hp_13 nx_14 →
  (∃ I_34 : Nat → Int32 → Int32 → zHp → Nat → Prop, (∃ n_102, I_34 n_102 x_12 (0 : Int32) hp_13 nx_14) ∧ ∀ (n_19 : Nat) (x_15 : Int32) (x_16 : Int32) (hp_17 : zHp) (nx_18 : Nat), I_34 n_19 x_15 x_16 hp_17 nx_18 →
  (((24 : Int32) ≤ x_16 →
  (∃ I_69 : Nat → Int32 → Int32 → zHp → Nat → Prop, (∃ n_82, I_69 n_82 x_15 (0 : Int32) hp_17 nx_18) ∧ ∀ (n_24 : Nat) (x_20 : Int32) (x_21 : Int32) (hp_22 : zHp) (nx_23 : Nat), I_69 n_24 x_20 x_21 hp_22 nx_23 →
  (((6 : Int32) ≤ x_21 →
  (zgR hp_22 (some h0) [5] 14 fun r_28 =>
  (zaI (g.2.1 3) hp_22 r_28 fun a_29 n_30 f_31 => vp_in x1 n_30 ∧ zB g ≤ a_29 ∧ ∀ hp_32 : zHp, hp_32 = va_up hp_22 a_29 (some (.inl (g.2.1 3, n_30, .inl (va_up f_31 x1.toNatClampNeg (vp_nar .boolean (1 : Int32)))))) →
  (zgR hp_32 (some h0) [5] 15 fun r_36 =>
  (zaI (g.2.1 0) hp_32 r_36 fun a_37 n_38 f_39 => vp_in x1 n_38 ∧ zB g ≤ a_37 ∧ ∀ hp_40 : zHp, hp_40 = va_up hp_32 a_37 (some (.inl (g.2.1 0, n_38, .inl (va_up f_39 x1.toNatClampNeg x_20)))) →
  (Post x_20 hp_40 nx_23)))))) ∧
  (¬ (6 : Int32) ≤ x_21 →
  (zgR hp_22 (some h0) [5] 6 fun r_44 =>
  (zaI (g.2.1 3) hp_22 r_44 fun a_45 n_46 f_47 => vp_in x_21 n_46 ∧ ∀ x_48 : Int32, x_48 = f_47 x_21.toNatClampNeg →
  (∃ P_114 : Int32 → Int32 → zHp → Nat → Prop, (∀ (x_49 : Int32) (x_50 : Int32) (hp_51 : zHp) (nx_52 : Nat), P_114 x_49 x_50 hp_51 nx_52 →
  (∀ x_53 : Int32, x_53 = x_50 + (1 : Int32) →
  (∃ k_54, k_54 < n_24 ∧ I_69 k_54 x_49 x_53 hp_51 nx_52))) ∧
  ((x_48 = 0 →
  P_114 x_20 x_21 hp_22 nx_23) ∧
  (¬ x_48 = 0 →
  (zo hp_22 (some h0) [5] fun a_79 ci_80 fs_81 => zMt l g yX5_times cX5_times 3 (some .int) d 0 0 (.ref a_79 :: [.int x1, .int x_21]) hp_22 nx_23 (zQi g fun x_57 hp_55 nx_56 =>
  ((x_57 ≤ 0 →
  P_114 x_20 x_21 hp_55 nx_56) ∧
  (¬ x_57 ≤ 0 →
  (zgR hp_55 (some h0) [5] 7 fun r_61 =>
  (zaI (g.2.1 0) hp_55 r_61 fun a_62 n_63 f_64 => vp_in x_21 n_63 ∧ ∀ x_65 : Int32, x_65 = f_64 x_21.toNatClampNeg →
  (zo hp_55 (some h0) [5] fun a_76 ci_77 fs_78 => zMt l g yX5_readOf cX5_readOf 4 (some .int) d 0 0 (.ref a_76 :: [.int x_65]) hp_55 nx_56 (zQi g fun x_68 hp_66 nx_67 =>
  (zo hp_66 (some h0) [5] fun a_73 ci_74 fs_75 => zMt l g yX5_varied cX5_varied 2 (some .int) d 0 0 (.ref a_73 :: [.int x_21]) hp_66 nx_67 (zQi g fun x_71 hp_69 nx_70 =>
  (∀ x_72 : Int32, x_72 = x_20 ||| (x_68 &&& (x_71 ^^^ (-1 : Int32))) →
  P_114 x_72 x_21 hp_69 nx_70)))))))))))))))))))) ∧
  (¬ (24 : Int32) ≤ x_16 →
  (zo hp_17 (some h0) [5] fun a_99 ci_100 fs_101 => zMt l g yX5_namesCells cX5_namesCells 2 (some .int) d 0 0 (.ref a_99 :: [.int x1]) hp_17 nx_18 (zQi g fun x_85 hp_83 nx_84 =>
  (∃ P_61 : Int32 → Int32 → zHp → Nat → Prop, (∀ (x_86 : Int32) (x_87 : Int32) (hp_88 : zHp) (nx_89 : Nat), P_61 x_86 x_87 hp_88 nx_89 →
  (∀ x_90 : Int32, x_90 = x_87 + (1 : Int32) →
  (∃ k_91, k_91 < n_19 ∧ I_34 k_91 x_86 x_90 hp_88 nx_89))) ∧
  ((((x_85 >>> (x_16 &&& 31)) &&& (1 : Int32)) = (1 : Int32) →
  (zo hp_83 (some h0) [5] fun a_96 ci_97 fs_98 => zMt l g yX5_readOf cX5_readOf 4 (some .int) d 0 0 (.ref a_96 :: [.int x_16]) hp_83 nx_84 (zQi g fun x_94 hp_92 nx_93 =>
  (∀ x_95 : Int32, x_95 = x_15 ||| x_94 →
  P_61 x_95 x_16 hp_92 nx_93)))) ∧
  (¬ ((x_85 >>> (x_16 &&& 31)) &&& (1 : Int32)) = (1 : Int32) →
  P_61 x_15 x_16 hp_83 nx_84))))))))) ∧
  ((x_11 = 0 →
  P_31 (0 : Int32) hp_9 nx_10) ∧
  (¬ x_11 = 0 →
  P_31 ((1 : Int32) <<< (x1 &&& 31)) hp_9 nx_10)))))) ∧
  (¬ x_8 = 0 →
  (zgR hp (some h0) [5] 15 fun r_109 =>
  (zaI (g.2.1 0) hp r_109 fun a_110 n_111 f_112 => vp_in x1 n_111 ∧ ∀ x_113 : Int32, x_113 = f_112 x1.toNatClampNeg →
  (Post x_113 hp nx)))))))
set_option maxHeartbeats 40000000 in
theorem met_X5_readOf {l : Launch} {g : zG} {d : Nat} {h0 : Nat} {x1 : Int32} {hp : zHp} {nx : Nat} {Post : Int32 → zHp → Nat → Prop} (hw : wp_X5_readOf l g d h0 x1 hp nx Post) : zMt l g yX5_readOf cX5_readOf 4 (some .int) (d + 1) 0 0 [.ref h0, .int x1] hp nx (zQi g Post) := by
  refine z_start (by decide) (Nat.le_of_ble_eq_true rfl) ?_
  intro p e s m below meth c hk hr hin hH hz ls hl
  have hx := hk.1.1
  have hb := hk.1.2.1
  have hown := hk.1.2.2.2.1
  have hts := hk.1.2.2.2.2
  have hS : va_S (zAd g) s.heap s.heap [] := va_S.rf
  have hl : lv_has ls 4 [(0, va_rf (some h0)), (1, .int x1)] := hl
  unfold wp_X5_readOf at hw
  refine zr_aload_n (r := some h0) hx hb dX5_readOf_0 rfl (lv_at hl 0 rfl) ?_
  obtain ⟨a_1, ci_2, fs_3, r_4, er, he, hc, hv, hw⟩ := zgR_e hw
  refine zw_get hk hH er he hv (fk_X5_58 hc) dX5_readOf_1 ?_
  refine lv_iload_n hx hb dX5_readOf_4 rfl (lv_at hl 1 rfl) ?_
  obtain ⟨a_5, n_6, f_7, er, he, hi, hw⟩ := zaI_e hw
  have hw := hw _ rfl
  refine zw_zald hk hH er he hi dX5_readOf_5 ?_
  generalize f_7 x1.toNatClampNeg = x_8 at hw ⊢
  refine lv_if_eq (tgt := 16) hx hb dX5_readOf_6 (by decide) (fun hc => ?_) (fun hc => ?_)
  · have hw := hw.1 hc
    refine zr_aload_n (r := some h0) hx hb dX5_readOf_16 rfl (lv_at hl 0 rfl) ?_
    refine lv_iload_n hx hb dX5_readOf_17 rfl (lv_at hl 1 rfl) ?_
    obtain ⟨a_103, ci_104, fs_105, er, he, hc, hw⟩ := zo_e hw
    obtain rfl := List.mem_singleton.mp hc
    refine zr_calli (zw_runV (As := [.int x1]) hk hH hz hS hl.1 er hw (cwV 1 hts (lw_V q2919 q2921 qs69 q162 q2922) rfl rfl rfl (by decide +kernel) (z_room (Nat.le_of_ble_eq_true rfl))) he rfl rfl rfl (Nat.le_of_ble_eq_true rfl) dX5_readOf_18 ⟨Nat.le_of_ble_eq_true rfl, Nat.le_of_ble_eq_true rfl⟩) hS (fun x_11 hp_9 nx_10 hw H locs hH hz hS => ?_)
    obtain ⟨P_31, hP_31, hw⟩ := hw
    have hJ_31 : ∀ (x_12 : Int32) (hp_13 : zHp) (nx_14 : Nat) (H : Heap) (locs : List Loc) (ls : Array Slot), P_31 x_12 hp_13 nx_14 → lv_has ls 4 [(0, va_rf (some h0)), (1, .int x1)] → zHd g hp_13 H → H.size = nx_14 → va_S (zAd g) s.heap H locs → W p l e (zrm (d + 1) 0 0) s m ([.ref h0, .int x1] : List Value).toArray below meth c H locs 0 0 (MQ below (zQi g Post) ([.ref h0, .int x1] : List Value).toArray s 0 0 (zAd g)) (F0 m 31 ls [.int x_12]) := by
      intro x_12 hp_13 nx_14 H locs ls hw hl hH hz hS
      have hw := hP_31 x_12 hp_13 nx_14 hw
      refine lv_istore_n (i := 2) (lv' := [(2, .int x_12), (0, va_rf (some h0)), (1, .int x1)]) hx hb dX5_readOf_31 rfl hl (by decide) (by first | rfl | simp [List.filter_cons, z_cat, z_catI, z_catJ, z_catF, z_catD]) (fun ls hl => ?_)
      refine lv_iconst (v := (0 : Int32)) hx hb dX5_readOf_32 (by decide) ?_
      refine lv_istore_n (i := 3) (lv' := [(3, .int (0 : Int32)), (2, .int x_12), (0, va_rf (some h0)), (1, .int x1)]) hx hb dX5_readOf_33 rfl hl (by decide) (by first | rfl | simp [List.filter_cons, z_cat, z_catI, z_catJ, z_catF, z_catD]) (fun ls hl => ?_)
      obtain ⟨I_34, ⟨n_102, hI⟩, hB_34⟩ := hw
      have hL_34 : ∀ (n_19 : Nat) (x_15 : Int32) (x_16 : Int32) (hp_17 : zHp) (nx_18 : Nat) (H : Heap) (locs : List Loc) (ls : Array Slot), I_34 n_19 x_15 x_16 hp_17 nx_18 → lv_has ls 4 [(0, va_rf (some h0)), (1, .int x1), (2, .int x_15), (3, .int x_16)] → zHd g hp_17 H → H.size = nx_18 → va_S (zAd g) s.heap H locs → W p l e (zrm (d + 1) 0 0) s m ([.ref h0, .int x1] : List Value).toArray below meth c H locs 0 0 (MQ below (zQi g Post) ([.ref h0, .int x1] : List Value).toArray s 0 0 (zAd g)) (F0 m 34 ls []) := by
        intro n_19
        induction n_19 using Nat.strongRecOn with
        | _ n_19 ih_34 =>
          intro x_15 x_16 hp_17 nx_18 H locs ls hw hl hH hz hS
          have hw := hB_34 n_19 x_15 x_16 hp_17 nx_18 hw
          refine lv_iload_n hx hb dX5_readOf_34 rfl (lv_at hl 3 rfl) ?_
          refine lv_bipush (v := (24 : Int32)) hx hb dX5_readOf_35 (by decide) ?_
          refine lv_icmp_ge (tgt := 67) hx hb dX5_readOf_37 (by decide) (fun hc => ?_) (fun hc => ?_)
          · have hw := hw.1 hc
            refine lv_iconst (v := (0 : Int32)) hx hb dX5_readOf_67 (by decide) ?_
            refine lv_istore_n (i := 3) (lv' := [(3, .int (0 : Int32)), (0, va_rf (some h0)), (1, .int x1), (2, .int x_15)]) hx hb dX5_readOf_68 rfl hl (by decide) (by first | rfl | simp [List.filter_cons, z_cat, z_catI, z_catJ, z_catF, z_catD]) (fun ls hl => ?_)
            obtain ⟨I_69, ⟨n_82, hI⟩, hB_69⟩ := hw
            have hL_69 : ∀ (n_24 : Nat) (x_20 : Int32) (x_21 : Int32) (hp_22 : zHp) (nx_23 : Nat) (H : Heap) (locs : List Loc) (ls : Array Slot), I_69 n_24 x_20 x_21 hp_22 nx_23 → lv_has ls 4 [(0, va_rf (some h0)), (1, .int x1), (2, .int x_20), (3, .int x_21)] → zHd g hp_22 H → H.size = nx_23 → va_S (zAd g) s.heap H locs → W p l e (zrm (d + 1) 0 0) s m ([.ref h0, .int x1] : List Value).toArray below meth c H locs 0 0 (MQ below (zQi g Post) ([.ref h0, .int x1] : List Value).toArray s 0 0 (zAd g)) (F0 m 69 ls []) := by
              intro n_24
              induction n_24 using Nat.strongRecOn with
              | _ n_24 ih_69 =>
                intro x_20 x_21 hp_22 nx_23 H locs ls hw hl hH hz hS
                have hw := hB_69 n_24 x_20 x_21 hp_22 nx_23 hw
                refine lv_iload_n hx hb dX5_readOf_69 rfl (lv_at hl 3 rfl) ?_
                refine lv_bipush (v := (6 : Int32)) hx hb dX5_readOf_70 (by decide) ?_
                refine lv_icmp_ge (tgt := 120) hx hb dX5_readOf_72 (by decide) (fun hc => ?_) (fun hc => ?_)
                · have hw := hw.1 hc
                  refine zr_aload_n (r := some h0) hx hb dX5_readOf_120 rfl (lv_at hl 0 rfl) ?_
                  obtain ⟨a_25, ci_26, fs_27, r_28, er, he, hc, hv, hw⟩ := zgR_e hw
                  refine zw_get hk hH er he hv (fk_X5_58 hc) dX5_readOf_121 ?_
                  refine lv_iload_n hx hb dX5_readOf_124 rfl (lv_at hl 1 rfl) ?_
                  refine lv_iconst (v := (1 : Int32)) hx hb dX5_readOf_125 (by decide) ?_
                  obtain ⟨a_29, n_30, f_31, er, he, hi, hA, hw⟩ := zaI_e hw
                  obtain ⟨hp_32, eh⟩ : ∃ y : zHp, y = va_up hp_22 a_29 (some (.inl (g.2.1 3, n_30, .inl (va_up f_31 x1.toNatClampNeg (vp_nar .boolean (1 : Int32)))))) := ⟨_, rfl⟩
                  have hw := hw hp_32 eh
                  refine zw_zast hk hH hz hS er he hi hA eh dX5_readOf_126 (fun H locs hH hz hS => ?_)
                  refine zr_aload_n (r := some h0) hx hb dX5_readOf_127 rfl (lv_at hl 0 rfl) ?_
                  obtain ⟨a_33, ci_34, fs_35, r_36, er, he, hc, hv, hw⟩ := zgR_e hw
                  refine zw_get hk hH er he hv (fk_X5_61 hc) dX5_readOf_128 ?_
                  refine lv_iload_n hx hb dX5_readOf_131 rfl (lv_at hl 1 rfl) ?_
                  refine lv_iload_n hx hb dX5_readOf_132 rfl (lv_at hl 2 rfl) ?_
                  obtain ⟨a_37, n_38, f_39, er, he, hi, hA, hw⟩ := zaI_e hw
                  obtain ⟨hp_40, eh⟩ : ∃ y : zHp, y = va_up hp_32 a_37 (some (.inl (g.2.1 0, n_38, .inl (va_up f_39 x1.toNatClampNeg x_20)))) := ⟨_, rfl⟩
                  have hw := hw hp_40 eh
                  refine zw_iast hk hH hz hS er he hi hA eh dX5_readOf_133 (fun H locs hH hz hS => ?_)
                  refine lv_iload_n hx hb dX5_readOf_134 rfl (lv_at hl 2 rfl) ?_
                  exact zr_iret hk hr hH hz hS hw (Nat.le_of_ble_eq_true rfl) (Nat.le_of_ble_eq_true rfl) dX5_readOf_135
                · have hw := hw.2 hc
                  refine zr_aload_n (r := some h0) hx hb dX5_readOf_75 rfl (lv_at hl 0 rfl) ?_
                  obtain ⟨a_41, ci_42, fs_43, r_44, er, he, hc, hv, hw⟩ := zgR_e hw
                  refine zw_get hk hH er he hv (fk_X5_34 hc) dX5_readOf_76 ?_
                  refine lv_iload_n hx hb dX5_readOf_79 rfl (lv_at hl 3 rfl) ?_
                  obtain ⟨a_45, n_46, f_47, er, he, hi, hw⟩ := zaI_e hw
                  have hw := hw _ rfl
                  refine zw_zald hk hH er he hi dX5_readOf_80 ?_
                  generalize f_47 x_21.toNatClampNeg = x_48 at hw ⊢
                  obtain ⟨P_114, hP_114, hw⟩ := hw
                  have hJ_114 : ∀ (x_49 : Int32) (x_50 : Int32) (hp_51 : zHp) (nx_52 : Nat) (H : Heap) (locs : List Loc) (ls : Array Slot), P_114 x_49 x_50 hp_51 nx_52 → lv_has ls 4 [(0, va_rf (some h0)), (1, .int x1), (2, .int x_49), (3, .int x_50)] → zHd g hp_51 H → H.size = nx_52 → va_S (zAd g) s.heap H locs → W p l e (zrm (d + 1) 0 0) s m ([.ref h0, .int x1] : List Value).toArray below meth c H locs 0 0 (MQ below (zQi g Post) ([.ref h0, .int x1] : List Value).toArray s 0 0 (zAd g)) (F0 m 114 ls []) := by
                    intro x_49 x_50 hp_51 nx_52 H locs ls hw hl hH hz hS
                    have hw := hP_114 x_49 x_50 hp_51 nx_52 hw
                    obtain ⟨x_53, ex_53⟩ : ∃ y : Int32, y = x_50 + (1 : Int32) := ⟨_, rfl⟩
                    have hw := hw x_53 ex_53
                    refine lv_iinc (v := x_53) (lv' := [(3, .int x_53), (0, va_rf (some h0)), (1, .int x1), (2, .int x_49)]) hx hb dX5_readOf_114 hl (k := 3) rfl (by rw [ex_53]; rfl) (by decide) (by first | rfl | simp [List.filter_cons, z_cat, z_catI, z_catJ, z_catF, z_catD]) (fun ls hl => ?_)
                    refine lv_goto (tgt := 69) hx hb dX5_readOf_117 (by decide) ?_
                    obtain ⟨k_54, hlt, hw⟩ := hw
                    exact ih_69 k_54 hlt x_49 x_53 hp_51 nx_52 _ _ _ hw (lv_sub hl [1, 2, 3, 0] rfl) hH hz hS
                  refine lv_if_eq (tgt := 114) hx hb dX5_readOf_81 (by decide) (fun hc => ?_) (fun hc => ?_)
                  · have hw := hw.1 hc
                    exact hJ_114 x_20 x_21 hp_22 nx_23 _ _ _ hw hl hH hz hS
                  · have hw := hw.2 hc
                    refine zr_aload_n (r := some h0) hx hb dX5_readOf_84 rfl (lv_at hl 0 rfl) ?_
                    refine lv_iload_n hx hb dX5_readOf_85 rfl (lv_at hl 1 rfl) ?_
                    refine lv_iload_n hx hb dX5_readOf_86 rfl (lv_at hl 3 rfl) ?_
                    obtain ⟨a_79, ci_80, fs_81, er, he, hc, hw⟩ := zo_e hw
                    obtain rfl := List.mem_singleton.mp hc
                    refine zr_calli (zw_runV (As := [.int x1, .int x_21]) hk hH hz hS hl.1 er hw (cwV 2 hts (lw_V q2961 q2963 qs74 q162 q2964) rfl rfl rfl (by decide +kernel) (z_room (Nat.le_of_ble_eq_true rfl))) he rfl rfl rfl (Nat.le_of_ble_eq_true rfl) dX5_readOf_87 ⟨Nat.le_of_ble_eq_true rfl, Nat.le_of_ble_eq_true rfl⟩) hS (fun x_57 hp_55 nx_56 hw H locs hH hz hS => ?_)
                    refine lv_if_le (tgt := 114) hx hb dX5_readOf_90 (by decide) (fun hc => ?_) (fun hc => ?_)
                    · have hw := hw.1 hc
                      exact hJ_114 x_20 x_21 hp_55 nx_56 _ _ _ hw hl hH hz hS
                    · have hw := hw.2 hc
                      refine lv_iload_n hx hb dX5_readOf_93 rfl (lv_at hl 2 rfl) ?_
                      refine zr_aload_n (r := some h0) hx hb dX5_readOf_94 rfl (lv_at hl 0 rfl) ?_
                      refine zr_aload_n (r := some h0) hx hb dX5_readOf_95 rfl (lv_at hl 0 rfl) ?_
                      obtain ⟨a_58, ci_59, fs_60, r_61, er, he, hc, hv, hw⟩ := zgR_e hw
                      refine zw_get hk hH er he hv (fk_X5_37 hc) dX5_readOf_96 ?_
                      refine lv_iload_n hx hb dX5_readOf_99 rfl (lv_at hl 3 rfl) ?_
                      obtain ⟨a_62, n_63, f_64, er, he, hi, hw⟩ := zaI_e hw
                      have hw := hw _ rfl
                      refine zw_iald hk hH er he hi dX5_readOf_100 ?_
                      generalize f_64 x_21.toNatClampNeg = x_65 at hw ⊢
                      obtain ⟨a_76, ci_77, fs_78, er, he, hc, hw⟩ := zo_e hw
                      obtain rfl := List.mem_singleton.mp hc
                      refine zr_calli (zw_runV (As := [.int x_65]) hk hH hz hS hl.1 er hw (cwV 1 hts (lw_V q2953 q2955 qs72 q162 q2956) rfl rfl rfl (by decide +kernel) (z_room (Nat.le_of_ble_eq_true rfl))) he rfl rfl rfl (Nat.le_of_ble_eq_true rfl) dX5_readOf_101 ⟨Nat.le_of_ble_eq_true rfl, Nat.le_of_ble_eq_true rfl⟩) hS (fun x_68 hp_66 nx_67 hw H locs hH hz hS => ?_)
                      refine zr_aload_n (r := some h0) hx hb dX5_readOf_104 rfl (lv_at hl 0 rfl) ?_
                      refine lv_iload_n hx hb dX5_readOf_105 rfl (lv_at hl 3 rfl) ?_
                      obtain ⟨a_73, ci_74, fs_75, er, he, hc, hw⟩ := zo_e hw
                      obtain rfl := List.mem_singleton.mp hc
                      refine zr_calli (zw_runV (As := [.int x_21]) hk hH hz hS hl.1 er hw (cwV 1 hts (lw_V q2965 q2967 qs75 q162 q2968) rfl rfl rfl (by decide +kernel) (z_room (Nat.le_of_ble_eq_true rfl))) he rfl rfl rfl (Nat.le_of_ble_eq_true rfl) dX5_readOf_106 ⟨Nat.le_of_ble_eq_true rfl, Nat.le_of_ble_eq_true rfl⟩) hS (fun x_71 hp_69 nx_70 hw H locs hH hz hS => ?_)
                      refine lv_iconst (v := (-1 : Int32)) hx hb dX5_readOf_109 (by decide) ?_
                      refine lv_ixor hx hb dX5_readOf_110 ?_
                      refine lv_iand hx hb dX5_readOf_111 ?_
                      refine lv_ior hx hb dX5_readOf_112 ?_
                      refine lv_topi (fun x_72 ex_72 => ?_)
                      have hw := hw x_72 ex_72
                      refine lv_istore_n (i := 2) (lv' := [(2, .int x_72), (0, va_rf (some h0)), (1, .int x1), (3, .int x_21)]) hx hb dX5_readOf_113 rfl hl (by decide) (by first | rfl | simp [List.filter_cons, z_cat, z_catI, z_catJ, z_catF, z_catD]) (fun ls hl => ?_)
                      exact hJ_114 x_72 x_21 hp_69 nx_70 _ _ _ hw (lv_sub hl [1, 2, 0, 3] rfl) hH hz hS
            exact hL_69 n_82 x_15 (0 : Int32) hp_17 nx_18 _ _ _ hI (lv_sub hl [1, 2, 3, 0] rfl) hH hz hS
          · have hw := hw.2 hc
            refine zr_aload_n (r := some h0) hx hb dX5_readOf_40 rfl (lv_at hl 0 rfl) ?_
            refine lv_iload_n hx hb dX5_readOf_41 rfl (lv_at hl 1 rfl) ?_
            obtain ⟨a_99, ci_100, fs_101, er, he, hc, hw⟩ := zo_e hw
            obtain rfl := List.mem_singleton.mp hc
            refine zr_calli (zw_runV (As := [.int x1]) hk hH hz hS hl.1 er hw (cwV 1 hts (lw_V q2957 q2959 qs73 q162 q2960) rfl rfl rfl (by decide +kernel) (z_room (Nat.le_of_ble_eq_true rfl))) he rfl rfl rfl (Nat.le_of_ble_eq_true rfl) dX5_readOf_42 ⟨Nat.le_of_ble_eq_true rfl, Nat.le_of_ble_eq_true rfl⟩) hS (fun x_85 hp_83 nx_84 hw H locs hH hz hS => ?_)
            refine lv_iload_n hx hb dX5_readOf_45 rfl (lv_at hl 3 rfl) ?_
            refine lv_ishr hx hb dX5_readOf_46 ?_
            refine lv_iconst (v := (1 : Int32)) hx hb dX5_readOf_47 (by decide) ?_
            refine lv_iand hx hb dX5_readOf_48 ?_
            refine lv_iconst (v := (1 : Int32)) hx hb dX5_readOf_49 (by decide) ?_
            obtain ⟨P_61, hP_61, hw⟩ := hw
            have hJ_61 : ∀ (x_86 : Int32) (x_87 : Int32) (hp_88 : zHp) (nx_89 : Nat) (H : Heap) (locs : List Loc) (ls : Array Slot), P_61 x_86 x_87 hp_88 nx_89 → lv_has ls 4 [(0, va_rf (some h0)), (1, .int x1), (2, .int x_86), (3, .int x_87)] → zHd g hp_88 H → H.size = nx_89 → va_S (zAd g) s.heap H locs → W p l e (zrm (d + 1) 0 0) s m ([.ref h0, .int x1] : List Value).toArray below meth c H locs 0 0 (MQ below (zQi g Post) ([.ref h0, .int x1] : List Value).toArray s 0 0 (zAd g)) (F0 m 61 ls []) := by
              intro x_86 x_87 hp_88 nx_89 H locs ls hw hl hH hz hS
              have hw := hP_61 x_86 x_87 hp_88 nx_89 hw
              obtain ⟨x_90, ex_90⟩ : ∃ y : Int32, y = x_87 + (1 : Int32) := ⟨_, rfl⟩
              have hw := hw x_90 ex_90
              refine lv_iinc (v := x_90) (lv' := [(3, .int x_90), (0, va_rf (some h0)), (1, .int x1), (2, .int x_86)]) hx hb dX5_readOf_61 hl (k := 3) rfl (by rw [ex_90]; rfl) (by decide) (by first | rfl | simp [List.filter_cons, z_cat, z_catI, z_catJ, z_catF, z_catD]) (fun ls hl => ?_)
              refine lv_goto (tgt := 34) hx hb dX5_readOf_64 (by decide) ?_
              obtain ⟨k_91, hlt, hw⟩ := hw
              exact ih_34 k_91 hlt x_86 x_90 hp_88 nx_89 _ _ _ hw (lv_sub hl [1, 2, 3, 0] rfl) hH hz hS
            refine lv_icmp_ne (tgt := 61) hx hb dX5_readOf_50 (by decide) (fun hc => ?_) (fun hc => ?_)
            · have hw := hw.2 hc
              exact hJ_61 x_15 x_16 hp_83 nx_84 _ _ _ hw hl hH hz hS
            · have hw := hw.1 hc
              refine lv_iload_n hx hb dX5_readOf_53 rfl (lv_at hl 2 rfl) ?_
              refine zr_aload_n (r := some h0) hx hb dX5_readOf_54 rfl (lv_at hl 0 rfl) ?_
              refine lv_iload_n hx hb dX5_readOf_55 rfl (lv_at hl 3 rfl) ?_
              obtain ⟨a_96, ci_97, fs_98, er, he, hc, hw⟩ := zo_e hw
              obtain rfl := List.mem_singleton.mp hc
              refine zr_calli (zw_runV (As := [.int x_16]) hk hH hz hS hl.1 er hw (cwV 1 hts (lw_V q2953 q2955 qs72 q162 q2956) rfl rfl rfl (by decide +kernel) (z_room (Nat.le_of_ble_eq_true rfl))) he rfl rfl rfl (Nat.le_of_ble_eq_true rfl) dX5_readOf_56 ⟨Nat.le_of_ble_eq_true rfl, Nat.le_of_ble_eq_true rfl⟩) hS (fun x_94 hp_92 nx_93 hw H locs hH hz hS => ?_)
              refine lv_ior hx hb dX5_readOf_59 ?_
              refine lv_topi (fun x_95 ex_95 => ?_)
              have hw := hw x_95 ex_95
              refine lv_istore_n (i := 2) (lv' := [(2, .int x_95), (0, va_rf (some h0)), (1, .int x1), (3, .int x_16)]) hx hb dX5_readOf_60 rfl hl (by decide) (by first | rfl | simp [List.filter_cons, z_cat, z_catI, z_catJ, z_catF, z_catD]) (fun ls hl => ?_)
              exact hJ_61 x_95 x_16 hp_92 nx_93 _ _ _ hw (lv_sub hl [1, 2, 0, 3] rfl) hH hz hS
      exact hL_34 n_102 x_12 (0 : Int32) hp_13 nx_14 _ _ _ hI (lv_sub hl [2, 3, 1, 0] rfl) hH hz hS
    refine lv_if_eq (tgt := 30) hx hb dX5_readOf_21 (by decide) (fun hc => ?_) (fun hc => ?_)
    · have hw := hw.1 hc
      refine lv_iconst (v := (0 : Int32)) hx hb dX5_readOf_30 (by decide) ?_
      exact hJ_31 (0 : Int32) hp_9 nx_10 _ _ _ hw hl hH hz hS
    · have hw := hw.2 hc
      refine lv_iconst (v := (1 : Int32)) hx hb dX5_readOf_24 (by decide) ?_
      refine lv_iload_n hx hb dX5_readOf_25 rfl (lv_at hl 1 rfl) ?_
      refine lv_ishl hx hb dX5_readOf_26 ?_
      refine lv_goto (tgt := 31) hx hb dX5_readOf_27 (by decide) ?_
      exact hJ_31 ((1 : Int32) <<< (x1 &&& 31)) hp_9 nx_10 _ _ _ hw hl hH hz hS
  · have hw := hw.2 hc
    refine zr_aload_n (r := some h0) hx hb dX5_readOf_9 rfl (lv_at hl 0 rfl) ?_
    obtain ⟨a_106, ci_107, fs_108, r_109, er, he, hc, hv, hw⟩ := zgR_e hw
    refine zw_get hk hH er he hv (fk_X5_61 hc) dX5_readOf_10 ?_
    refine lv_iload_n hx hb dX5_readOf_13 rfl (lv_at hl 1 rfl) ?_
    obtain ⟨a_110, n_111, f_112, er, he, hi, hw⟩ := zaI_e hw
    have hw := hw _ rfl
    refine zw_iald hk hH er he hi dX5_readOf_14 ?_
    generalize f_112 x1.toNatClampNeg = x_113 at hw ⊢
    exact zr_iret hk hr hH hz hS hw (Nat.le_of_ble_eq_true rfl) (Nat.le_of_ble_eq_true rfl) dX5_readOf_15
def wp_X5_namesCells (l : Launch) (g : zG) (d : Nat) (h0 : Nat) (x1 : Int32) (hp : zHp) (nx : Nat) (Post : Int32 → zHp → Nat → Prop) : Prop :=
  (zgR hp (some h0) [5] 12 fun r_4 =>
  (zaI (g.2.1 0) hp r_4 fun a_5 n_6 f_7 => vp_in x1 n_6 ∧ ∀ x_8 : Int32, x_8 = f_7 x1.toNatClampNeg →
  (Post x_8 hp nx)))
set_option maxHeartbeats 40000000 in
theorem met_X5_namesCells {l : Launch} {g : zG} {d : Nat} {h0 : Nat} {x1 : Int32} {hp : zHp} {nx : Nat} {Post : Int32 → zHp → Nat → Prop} (hw : wp_X5_namesCells l g d h0 x1 hp nx Post) : zMt l g yX5_namesCells cX5_namesCells 2 (some .int) (d + 1) 0 0 [.ref h0, .int x1] hp nx (zQi g Post) := by
  refine z_start (by decide) (Nat.le_of_ble_eq_true rfl) ?_
  intro p e s m below meth c hk hr hin hH hz ls hl
  have hx := hk.1.1
  have hb := hk.1.2.1
  have hown := hk.1.2.2.2.1
  have hts := hk.1.2.2.2.2
  have hS : va_S (zAd g) s.heap s.heap [] := va_S.rf
  have hl : lv_has ls 2 [(0, va_rf (some h0)), (1, .int x1)] := hl
  unfold wp_X5_namesCells at hw
  refine zr_aload_n (r := some h0) hx hb dX5_namesCells_0 rfl (lv_at hl 0 rfl) ?_
  obtain ⟨a_1, ci_2, fs_3, r_4, er, he, hc, hv, hw⟩ := zgR_e hw
  refine zw_get hk hH er he hv (fk_X5_52 hc) dX5_namesCells_1 ?_
  refine lv_iload_n hx hb dX5_namesCells_4 rfl (lv_at hl 1 rfl) ?_
  obtain ⟨a_5, n_6, f_7, er, he, hi, hw⟩ := zaI_e hw
  have hw := hw _ rfl
  refine zw_iald hk hH er he hi dX5_namesCells_5 ?_
  generalize f_7 x1.toNatClampNeg = x_8 at hw ⊢
  exact zr_iret hk hr hH hz hS hw (Nat.le_of_ble_eq_true rfl) (Nat.le_of_ble_eq_true rfl) dX5_namesCells_6
def wp_X5_times (l : Launch) (g : zG) (d : Nat) (h0 : Nat) (x1 : Int32) (x2 : Int32) (hp : zHp) (nx : Nat) (Post : Int32 → zHp → Nat → Prop) : Prop :=
  (zgR hp (some h0) [5] 13 fun r_4 =>
  (zaR (g.2.1 14) hp r_4 fun a_5 n_6 f_7 => vp_in x1 n_6 ∧ ∀ r_8 : Option Nat, r_8 = f_7 x1.toNatClampNeg →
  (zaI (g.2.1 0) hp r_8 fun a_9 n_10 f_11 => vp_in x2 n_10 ∧ ∀ x_12 : Int32, x_12 = f_11 x2.toNatClampNeg →
  (Post x_12 hp nx))))
set_option maxHeartbeats 40000000 in
theorem met_X5_times {l : Launch} {g : zG} {d : Nat} {h0 : Nat} {x1 : Int32} {x2 : Int32} {hp : zHp} {nx : Nat} {Post : Int32 → zHp → Nat → Prop} (hw : wp_X5_times l g d h0 x1 x2 hp nx Post) : zMt l g yX5_times cX5_times 3 (some .int) (d + 1) 0 0 [.ref h0, .int x1, .int x2] hp nx (zQi g Post) := by
  refine z_start (by decide) (Nat.le_of_ble_eq_true rfl) ?_
  intro p e s m below meth c hk hr hin hH hz ls hl
  have hx := hk.1.1
  have hb := hk.1.2.1
  have hown := hk.1.2.2.2.1
  have hts := hk.1.2.2.2.2
  have hS : va_S (zAd g) s.heap s.heap [] := va_S.rf
  have hl : lv_has ls 3 [(0, va_rf (some h0)), (1, .int x1), (2, .int x2)] := hl
  unfold wp_X5_times at hw
  refine zr_aload_n (r := some h0) hx hb dX5_times_0 rfl (lv_at hl 0 rfl) ?_
  obtain ⟨a_1, ci_2, fs_3, r_4, er, he, hc, hv, hw⟩ := zgR_e hw
  refine zw_get hk hH er he hv (fk_X5_55 hc) dX5_times_1 ?_
  refine lv_iload_n hx hb dX5_times_4 rfl (lv_at hl 1 rfl) ?_
  obtain ⟨a_5, n_6, f_7, er, he, hi, hw⟩ := zaR_e hw
  have hw := hw _ rfl
  refine zw_aald hk hH 14 er he rfl rfl hi dX5_times_5 ?_
  generalize f_7 x1.toNatClampNeg = r_8 at hw ⊢
  refine lv_iload_n hx hb dX5_times_6 rfl (lv_at hl 2 rfl) ?_
  obtain ⟨a_9, n_10, f_11, er, he, hi, hw⟩ := zaI_e hw
  have hw := hw _ rfl
  refine zw_iald hk hH er he hi dX5_times_7 ?_
  generalize f_11 x2.toNatClampNeg = x_12 at hw ⊢
  exact zr_iret hk hr hH hz hS hw (Nat.le_of_ble_eq_true rfl) (Nat.le_of_ble_eq_true rfl) dX5_times_8
theorem fk_X5_40 {ci : Nat} (h : ci ∈ [5]) : zFk "WhatIfSheetModel" 40 ci 8 := by
  simp only [List.mem_cons, List.not_mem_nil, or_false] at h
  rcases h with rfl
  · exact ⟨RX5, TX5, 76, rfl, by decide, q2682⟩
theorem fk_X5_43 {ci : Nat} (h : ci ∈ [5]) : zFk "WhatIfSheetModel" 43 ci 9 := by
  simp only [List.mem_cons, List.not_mem_nil, or_false] at h
  rcases h with rfl
  · exact ⟨RX5, TX5, 76, rfl, by decide, q2683⟩
def wp_X5_varied (l : Launch) (g : zG) (d : Nat) (h0 : Nat) (x1 : Int32) (hp : zHp) (nx : Nat) (Post : Int32 → zHp → Nat → Prop) : Prop :=
  (zgR hp (some h0) [5] 8 fun r_4 =>
  (zaI (g.2.1 0) hp r_4 fun a_5 n_6 f_7 => vp_in x1 n_6 ∧ ∀ x_8 : Int32, x_8 = f_7 x1.toNatClampNeg →
  (zgR hp (some h0) [5] 9 fun r_12 =>
  (zaI (g.2.1 0) hp r_12 fun a_13 n_14 f_15 => vp_in x1 n_14 ∧ ∀ x_16 : Int32, x_16 = f_15 x1.toNatClampNeg →
  (∃ P_30 : Int32 → Int32 → Prop, (∀ (x_17 : Int32) (x_18 : Int32), P_30 x_17 x_18 →
  (Post (x_17 ||| x_18) hp nx)) ∧
  ((x_16 = (-1 : Int32) →
  P_30 ((1 : Int32) <<< (x_8 &&& 31)) (0 : Int32)) ∧
  (¬ x_16 = (-1 : Int32) →
  (zgR hp (some h0) [5] 9 fun r_22 =>
  (zaI (g.2.1 0) hp r_22 fun a_23 n_24 f_25 => vp_in x1 n_24 ∧ ∀ x_26 : Int32, x_26 = f_25 x1.toNatClampNeg →
  P_30 ((1 : Int32) <<< (x_8 &&& 31)) ((1 : Int32) <<< (x_26 &&& 31)))))))))))
set_option maxHeartbeats 40000000 in
theorem met_X5_varied {l : Launch} {g : zG} {d : Nat} {h0 : Nat} {x1 : Int32} {hp : zHp} {nx : Nat} {Post : Int32 → zHp → Nat → Prop} (hw : wp_X5_varied l g d h0 x1 hp nx Post) : zMt l g yX5_varied cX5_varied 2 (some .int) (d + 1) 0 0 [.ref h0, .int x1] hp nx (zQi g Post) := by
  refine z_start (by decide) (Nat.le_of_ble_eq_true rfl) ?_
  intro p e s m below meth c hk hr hin hH hz ls hl
  have hx := hk.1.1
  have hb := hk.1.2.1
  have hown := hk.1.2.2.2.1
  have hts := hk.1.2.2.2.2
  have hS : va_S (zAd g) s.heap s.heap [] := va_S.rf
  have hl : lv_has ls 2 [(0, va_rf (some h0)), (1, .int x1)] := hl
  unfold wp_X5_varied at hw
  refine lv_iconst (v := (1 : Int32)) hx hb dX5_varied_0 (by decide) ?_
  refine zr_aload_n (r := some h0) hx hb dX5_varied_1 rfl (lv_at hl 0 rfl) ?_
  obtain ⟨a_1, ci_2, fs_3, r_4, er, he, hc, hv, hw⟩ := zgR_e hw
  refine zw_get hk hH er he hv (fk_X5_40 hc) dX5_varied_2 ?_
  refine lv_iload_n hx hb dX5_varied_5 rfl (lv_at hl 1 rfl) ?_
  obtain ⟨a_5, n_6, f_7, er, he, hi, hw⟩ := zaI_e hw
  have hw := hw _ rfl
  refine zw_iald hk hH er he hi dX5_varied_6 ?_
  generalize f_7 x1.toNatClampNeg = x_8 at hw ⊢
  refine lv_ishl hx hb dX5_varied_7 ?_
  refine zr_aload_n (r := some h0) hx hb dX5_varied_8 rfl (lv_at hl 0 rfl) ?_
  obtain ⟨a_9, ci_10, fs_11, r_12, er, he, hc, hv, hw⟩ := zgR_e hw
  refine zw_get hk hH er he hv (fk_X5_43 hc) dX5_varied_9 ?_
  refine lv_iload_n hx hb dX5_varied_12 rfl (lv_at hl 1 rfl) ?_
  obtain ⟨a_13, n_14, f_15, er, he, hi, hw⟩ := zaI_e hw
  have hw := hw _ rfl
  refine zw_iald hk hH er he hi dX5_varied_13 ?_
  generalize f_15 x1.toNatClampNeg = x_16 at hw ⊢
  refine lv_iconst (v := (-1 : Int32)) hx hb dX5_varied_14 (by decide) ?_
  obtain ⟨P_30, hP_30, hw⟩ := hw
  have hJ_30 : ∀ (x_17 : Int32) (x_18 : Int32) (H : Heap) (locs : List Loc) (ls : Array Slot), P_30 x_17 x_18 → lv_has ls 2 [(0, va_rf (some h0)), (1, .int x1)] → zHd g hp H → H.size = nx → va_S (zAd g) s.heap H locs → W p l e (zrm (d + 1) 0 0) s m ([.ref h0, .int x1] : List Value).toArray below meth c H locs 0 0 (MQ below (zQi g Post) ([.ref h0, .int x1] : List Value).toArray s 0 0 (zAd g)) (F0 m 30 ls [.int x_18, .int x_17]) := by
    intro x_17 x_18 H locs ls hw hl hH hz hS
    have hw := hP_30 x_17 x_18 hw
    refine lv_ior hx hb dX5_varied_30 ?_
    exact zr_iret hk hr hH hz hS hw (Nat.le_of_ble_eq_true rfl) (Nat.le_of_ble_eq_true rfl) dX5_varied_31
  refine lv_icmp_ne (tgt := 22) hx hb dX5_varied_15 (by decide) (fun hc => ?_) (fun hc => ?_)
  · have hw := hw.2 hc
    refine lv_iconst (v := (1 : Int32)) hx hb dX5_varied_22 (by decide) ?_
    refine zr_aload_n (r := some h0) hx hb dX5_varied_23 rfl (lv_at hl 0 rfl) ?_
    obtain ⟨a_19, ci_20, fs_21, r_22, er, he, hc, hv, hw⟩ := zgR_e hw
    refine zw_get hk hH er he hv (fk_X5_43 hc) dX5_varied_24 ?_
    refine lv_iload_n hx hb dX5_varied_27 rfl (lv_at hl 1 rfl) ?_
    obtain ⟨a_23, n_24, f_25, er, he, hi, hw⟩ := zaI_e hw
    have hw := hw _ rfl
    refine zw_iald hk hH er he hi dX5_varied_28 ?_
    generalize f_25 x1.toNatClampNeg = x_26 at hw ⊢
    refine lv_ishl hx hb dX5_varied_29 ?_
    exact hJ_30 ((1 : Int32) <<< (x_8 &&& 31)) ((1 : Int32) <<< (x_26 &&& 31)) _ _ _ hw hl hH hz hS
  · have hw := hw.1 hc
    refine lv_iconst (v := (0 : Int32)) hx hb dX5_varied_18 (by decide) ?_
    refine lv_goto (tgt := 30) hx hb dX5_varied_19 (by decide) ?_
    exact hJ_30 ((1 : Int32) <<< (x_8 &&& 31)) (0 : Int32) _ _ _ hw hl hH hz hS
def wp_X5_reached (l : Launch) (g : zG) (d : Nat) (h0 : Nat) (x1 : Int32) (hp : zHp) (nx : Nat) (Post : Int32 → zHp → Nat → Prop) : Prop :=
  (∀ x_1 : Int32, x_1 = (1 : Int32) <<< (x1 &&& 31) →
  (∃ I_6 : Nat → Int32 → Int32 → zHp → Nat → Prop, (∃ n_29, I_6 n_29 x_1 (0 : Int32) hp nx) ∧ ∀ (n_6 : Nat) (x_2 : Int32) (x_3 : Int32) (hp_4 : zHp) (nx_5 : Nat), I_6 n_6 x_2 x_3 hp_4 nx_5 →
  ((x_2 = x_3 →
  (Post x_2 hp_4 nx_5)) ∧
  (¬ x_2 = x_3 →
  (∃ I_16 : Nat → Int32 → Int32 → Int32 → zHp → Nat → Prop, (∃ n_28, I_16 n_28 x_2 x_2 (0 : Int32) hp_4 nx_5) ∧ ∀ (n_12 : Nat) (x_7 : Int32) (x_8 : Int32) (x_9 : Int32) (hp_10 : zHp) (nx_11 : Nat), I_16 n_12 x_7 x_8 x_9 hp_10 nx_11 →
  (((24 : Int32) ≤ x_9 →
  (∃ k_13, k_13 < n_6 ∧ I_6 k_13 x_7 x_8 hp_10 nx_11)) ∧
  (¬ (24 : Int32) ≤ x_9 →
  (∃ P_42 : Int32 → Int32 → Int32 → zHp → Nat → Prop, (∀ (x_14 : Int32) (x_15 : Int32) (x_16 : Int32) (hp_17 : zHp) (nx_18 : Nat), P_42 x_14 x_15 x_16 hp_17 nx_18 →
  (∀ x_19 : Int32, x_19 = x_16 + (1 : Int32) →
  (∃ k_20, k_20 < n_12 ∧ I_16 k_20 x_14 x_15 x_19 hp_17 nx_18))) ∧
  ((((x_8 >>> (x_9 &&& 31)) &&& (1 : Int32)) = (1 : Int32) →
  (zo hp_10 (some h0) [5] fun a_25 ci_26 fs_27 => zMt l g yX5_namesCells cX5_namesCells 2 (some .int) d 0 0 (.ref a_25 :: [.int x_9]) hp_10 nx_11 (zQi g fun x_23 hp_21 nx_22 =>
  (∀ x_24 : Int32, x_24 = x_7 ||| x_23 →
  P_42 x_24 x_8 x_9 hp_21 nx_22)))) ∧
  (¬ ((x_8 >>> (x_9 &&& 31)) &&& (1 : Int32)) = (1 : Int32) →
  P_42 x_7 x_8 x_9 hp_10 nx_11))))))))))
set_option maxHeartbeats 40000000 in
theorem met_X5_reached {l : Launch} {g : zG} {d : Nat} {h0 : Nat} {x1 : Int32} {hp : zHp} {nx : Nat} {Post : Int32 → zHp → Nat → Prop} (hw : wp_X5_reached l g d h0 x1 hp nx Post) : zMt l g yX5_reached cX5_reached 5 (some .int) (d + 1) 0 0 [.ref h0, .int x1] hp nx (zQi g Post) := by
  refine z_start (by decide) (Nat.le_of_ble_eq_true rfl) ?_
  intro p e s m below meth c hk hr hin hH hz ls hl
  have hx := hk.1.1
  have hb := hk.1.2.1
  have hown := hk.1.2.2.2.1
  have hts := hk.1.2.2.2.2
  have hS : va_S (zAd g) s.heap s.heap [] := va_S.rf
  have hl : lv_has ls 5 [(0, va_rf (some h0)), (1, .int x1)] := hl
  unfold wp_X5_reached at hw
  refine lv_iconst (v := (1 : Int32)) hx hb dX5_reached_0 (by decide) ?_
  refine lv_iload_n hx hb dX5_reached_1 rfl (lv_at hl 1 rfl) ?_
  refine lv_ishl hx hb dX5_reached_2 ?_
  refine lv_topi (fun x_1 ex_1 => ?_)
  have hw := hw x_1 ex_1
  refine lv_istore_n (i := 2) (lv' := [(2, .int x_1), (0, va_rf (some h0)), (1, .int x1)]) hx hb dX5_reached_3 rfl hl (by decide) (by first | rfl | simp [List.filter_cons, z_cat, z_catI, z_catJ, z_catF, z_catD]) (fun ls hl => ?_)
  refine lv_iconst (v := (0 : Int32)) hx hb dX5_reached_4 (by decide) ?_
  refine lv_istore_n (i := 3) (lv' := [(3, .int (0 : Int32)), (2, .int x_1), (0, va_rf (some h0)), (1, .int x1)]) hx hb dX5_reached_5 rfl hl (by decide) (by first | rfl | simp [List.filter_cons, z_cat, z_catI, z_catJ, z_catF, z_catD]) (fun ls hl => ?_)
  obtain ⟨I_6, ⟨n_29, hI⟩, hB_6⟩ := hw
  have hL_6 : ∀ (n_6 : Nat) (x_2 : Int32) (x_3 : Int32) (hp_4 : zHp) (nx_5 : Nat) (H : Heap) (locs : List Loc) (ls : Array Slot), I_6 n_6 x_2 x_3 hp_4 nx_5 → lv_has ls 5 [(0, va_rf (some h0)), (1, .int x1), (2, .int x_2), (3, .int x_3)] → zHd g hp_4 H → H.size = nx_5 → va_S (zAd g) s.heap H locs → W p l e (zrm (d + 1) 0 0) s m ([.ref h0, .int x1] : List Value).toArray below meth c H locs 0 0 (MQ below (zQi g Post) ([.ref h0, .int x1] : List Value).toArray s 0 0 (zAd g)) (F0 m 6 ls []) := by
    intro n_6
    induction n_6 using Nat.strongRecOn with
    | _ n_6 ih_6 =>
      intro x_2 x_3 hp_4 nx_5 H locs ls hw hl hH hz hS
      have hw := hB_6 n_6 x_2 x_3 hp_4 nx_5 hw
      refine lv_iload_n hx hb dX5_reached_6 rfl (lv_at hl 2 rfl) ?_
      refine lv_iload_n hx hb dX5_reached_7 rfl (lv_at hl 3 rfl) ?_
      refine lv_icmp_eq (tgt := 51) hx hb dX5_reached_8 (by decide) (fun hc => ?_) (fun hc => ?_)
      · have hw := hw.1 hc
        refine lv_iload_n hx hb dX5_reached_51 rfl (lv_at hl 2 rfl) ?_
        exact zr_iret hk hr hH hz hS hw (Nat.le_of_ble_eq_true rfl) (Nat.le_of_ble_eq_true rfl) dX5_reached_52
      · have hw := hw.2 hc
        refine lv_iload_n hx hb dX5_reached_11 rfl (lv_at hl 2 rfl) ?_
        refine lv_istore_n (i := 3) (lv' := [(3, .int x_2), (0, va_rf (some h0)), (1, .int x1), (2, .int x_2)]) hx hb dX5_reached_12 rfl hl (by decide) (by first | rfl | simp [List.filter_cons, z_cat, z_catI, z_catJ, z_catF, z_catD]) (fun ls hl => ?_)
        refine lv_iconst (v := (0 : Int32)) hx hb dX5_reached_13 (by decide) ?_
        refine lv_istore (lv' := [(4, .int (0 : Int32)), (3, .int x_2), (0, va_rf (some h0)), (1, .int x1), (2, .int x_2)]) hx hb dX5_reached_14 hl (by decide) (by first | rfl | simp [List.filter_cons, z_cat, z_catI, z_catJ, z_catF, z_catD]) (fun ls hl => ?_)
        obtain ⟨I_16, ⟨n_28, hI⟩, hB_16⟩ := hw
        have hL_16 : ∀ (n_12 : Nat) (x_7 : Int32) (x_8 : Int32) (x_9 : Int32) (hp_10 : zHp) (nx_11 : Nat) (H : Heap) (locs : List Loc) (ls : Array Slot), I_16 n_12 x_7 x_8 x_9 hp_10 nx_11 → lv_has ls 5 [(0, va_rf (some h0)), (1, .int x1), (2, .int x_7), (3, .int x_8), (4, .int x_9)] → zHd g hp_10 H → H.size = nx_11 → va_S (zAd g) s.heap H locs → W p l e (zrm (d + 1) 0 0) s m ([.ref h0, .int x1] : List Value).toArray below meth c H locs 0 0 (MQ below (zQi g Post) ([.ref h0, .int x1] : List Value).toArray s 0 0 (zAd g)) (F0 m 16 ls []) := by
          intro n_12
          induction n_12 using Nat.strongRecOn with
          | _ n_12 ih_16 =>
            intro x_7 x_8 x_9 hp_10 nx_11 H locs ls hw hl hH hz hS
            have hw := hB_16 n_12 x_7 x_8 x_9 hp_10 nx_11 hw
            refine lv_iload hx hb dX5_reached_16 (lv_at hl 4 rfl) ?_
            refine lv_bipush (v := (24 : Int32)) hx hb dX5_reached_18 (by decide) ?_
            refine lv_icmp_ge (tgt := 48) hx hb dX5_reached_20 (by decide) (fun hc => ?_) (fun hc => ?_)
            · have hw := hw.1 hc
              refine lv_goto (tgt := 6) hx hb dX5_reached_48 (by decide) ?_
              obtain ⟨k_13, hlt, hw⟩ := hw
              exact ih_6 k_13 hlt x_7 x_8 hp_10 nx_11 _ _ _ hw (lv_sub hl [0, 1, 2, 3] rfl) hH hz hS
            · have hw := hw.2 hc
              refine lv_iload_n hx hb dX5_reached_23 rfl (lv_at hl 3 rfl) ?_
              refine lv_iload hx hb dX5_reached_24 (lv_at hl 4 rfl) ?_
              refine lv_ishr hx hb dX5_reached_26 ?_
              refine lv_iconst (v := (1 : Int32)) hx hb dX5_reached_27 (by decide) ?_
              refine lv_iand hx hb dX5_reached_28 ?_
              refine lv_iconst (v := (1 : Int32)) hx hb dX5_reached_29 (by decide) ?_
              obtain ⟨P_42, hP_42, hw⟩ := hw
              have hJ_42 : ∀ (x_14 : Int32) (x_15 : Int32) (x_16 : Int32) (hp_17 : zHp) (nx_18 : Nat) (H : Heap) (locs : List Loc) (ls : Array Slot), P_42 x_14 x_15 x_16 hp_17 nx_18 → lv_has ls 5 [(0, va_rf (some h0)), (1, .int x1), (2, .int x_14), (3, .int x_15), (4, .int x_16)] → zHd g hp_17 H → H.size = nx_18 → va_S (zAd g) s.heap H locs → W p l e (zrm (d + 1) 0 0) s m ([.ref h0, .int x1] : List Value).toArray below meth c H locs 0 0 (MQ below (zQi g Post) ([.ref h0, .int x1] : List Value).toArray s 0 0 (zAd g)) (F0 m 42 ls []) := by
                intro x_14 x_15 x_16 hp_17 nx_18 H locs ls hw hl hH hz hS
                have hw := hP_42 x_14 x_15 x_16 hp_17 nx_18 hw
                obtain ⟨x_19, ex_19⟩ : ∃ y : Int32, y = x_16 + (1 : Int32) := ⟨_, rfl⟩
                have hw := hw x_19 ex_19
                refine lv_iinc (v := x_19) (lv' := [(4, .int x_19), (0, va_rf (some h0)), (1, .int x1), (2, .int x_14), (3, .int x_15)]) hx hb dX5_reached_42 hl (k := 4) rfl (by rw [ex_19]; rfl) (by decide) (by first | rfl | simp [List.filter_cons, z_cat, z_catI, z_catJ, z_catF, z_catD]) (fun ls hl => ?_)
                refine lv_goto (tgt := 16) hx hb dX5_reached_45 (by decide) ?_
                obtain ⟨k_20, hlt, hw⟩ := hw
                exact ih_16 k_20 hlt x_14 x_15 x_19 hp_17 nx_18 _ _ _ hw (lv_sub hl [1, 2, 3, 4, 0] rfl) hH hz hS
              refine lv_icmp_ne (tgt := 42) hx hb dX5_reached_30 (by decide) (fun hc => ?_) (fun hc => ?_)
              · have hw := hw.2 hc
                exact hJ_42 x_7 x_8 x_9 hp_10 nx_11 _ _ _ hw hl hH hz hS
              · have hw := hw.1 hc
                refine lv_iload_n hx hb dX5_reached_33 rfl (lv_at hl 2 rfl) ?_
                refine zr_aload_n (r := some h0) hx hb dX5_reached_34 rfl (lv_at hl 0 rfl) ?_
                refine lv_iload hx hb dX5_reached_35 (lv_at hl 4 rfl) ?_
                obtain ⟨a_25, ci_26, fs_27, er, he, hc, hw⟩ := zo_e hw
                obtain rfl := List.mem_singleton.mp hc
                refine zr_calli (zw_runV (As := [.int x_9]) hk hH hz hS hl.1 er hw (cwV 1 hts (lw_V q2957 q2959 qs73 q162 q2960) rfl rfl rfl (by decide +kernel) (z_room (Nat.le_of_ble_eq_true rfl))) he rfl rfl rfl (Nat.le_of_ble_eq_true rfl) dX5_reached_37 ⟨Nat.le_of_ble_eq_true rfl, Nat.le_of_ble_eq_true rfl⟩) hS (fun x_23 hp_21 nx_22 hw H locs hH hz hS => ?_)
                refine lv_ior hx hb dX5_reached_40 ?_
                refine lv_topi (fun x_24 ex_24 => ?_)
                have hw := hw x_24 ex_24
                refine lv_istore_n (i := 2) (lv' := [(2, .int x_24), (0, va_rf (some h0)), (1, .int x1), (3, .int x_8), (4, .int x_9)]) hx hb dX5_reached_41 rfl hl (by decide) (by first | rfl | simp [List.filter_cons, z_cat, z_catI, z_catJ, z_catF, z_catD]) (fun ls hl => ?_)
                exact hJ_42 x_24 x_8 x_9 hp_21 nx_22 _ _ _ hw (lv_sub hl [1, 2, 0, 3, 4] rfl) hH hz hS
        exact hL_16 n_28 x_2 x_2 (0 : Int32) hp_4 nx_5 _ _ _ hI (lv_sub hl [2, 3, 4, 1, 0] rfl) hH hz hS
  exact hL_6 n_29 x_1 (0 : Int32) hp nx _ _ _ hI (lv_sub hl [2, 3, 1, 0] rfl) hH hz hS
theorem fk_X5_64 {ci : Nat} (h : ci ∈ [5]) : zFk "WhatIfSheetModel" 64 ci 16 := by
  simp only [List.mem_cons, List.not_mem_nil, or_false] at h
  rcases h with rfl
  · exact ⟨RX5, TX5, 76, rfl, by decide, q2690⟩
def wp_X5_burdenNow (l : Launch) (g : zG) (d : Nat) (h0 : Nat) (x1 : Int32) (hp : zHp) (nx : Nat) (Post : Int32 → zHp → Nat → Prop) : Prop :=
  (∃ I_2 : Nat → Int32 → zHp → Nat → Prop, (∃ n_21, I_2 n_21 (0 : Int32) hp nx) ∧ ∀ (n_4 : Nat) (x_1 : Int32) (hp_2 : zHp) (nx_3 : Nat), I_2 n_4 x_1 hp_2 nx_3 →
  (((24 : Int32) ≤ x_1 →
  (zo hp_2 (some h0) [5] fun a_8 ci_9 fs_10 => zMt l g yX5_burdenOf cX5_burdenOf 7 (some .int) d 0 0 (.ref a_8 :: [.int x1]) hp_2 nx_3 (zQi g fun x_7 hp_5 nx_6 =>
  (Post x_7 hp_5 nx_6)))) ∧
  (¬ (24 : Int32) ≤ x_1 →
  (zgR hp_2 (some h0) [5] 16 fun r_14 =>
  (zaI (g.2.1 3) hp_2 r_14 fun a_15 n_16 f_17 => vp_in x_1 n_16 ∧ zB g ≤ a_15 ∧ ∀ hp_18 : zHp, hp_18 = va_up hp_2 a_15 (some (.inl (g.2.1 3, n_16, .inl (va_up f_17 x_1.toNatClampNeg (vp_nar .boolean (0 : Int32)))))) →
  (∀ x_19 : Int32, x_19 = x_1 + (1 : Int32) →
  (∃ k_20, k_20 < n_4 ∧ I_2 k_20 x_19 hp_18 nx_3)))))))
set_option maxHeartbeats 40000000 in
theorem met_X5_burdenNow {l : Launch} {g : zG} {d : Nat} {h0 : Nat} {x1 : Int32} {hp : zHp} {nx : Nat} {Post : Int32 → zHp → Nat → Prop} (hw : wp_X5_burdenNow l g d h0 x1 hp nx Post) : zMt l g yX5_burdenNow cX5_burdenNow 3 (some .int) (d + 1) 0 0 [.ref h0, .int x1] hp nx (zQi g Post) := by
  refine z_start (by decide) (Nat.le_of_ble_eq_true rfl) ?_
  intro p e s m below meth c hk hr hin hH hz ls hl
  have hx := hk.1.1
  have hb := hk.1.2.1
  have hown := hk.1.2.2.2.1
  have hts := hk.1.2.2.2.2
  have hS : va_S (zAd g) s.heap s.heap [] := va_S.rf
  have hl : lv_has ls 3 [(0, va_rf (some h0)), (1, .int x1)] := hl
  unfold wp_X5_burdenNow at hw
  refine lv_iconst (v := (0 : Int32)) hx hb dX5_burdenNow_0 (by decide) ?_
  refine lv_istore_n (i := 2) (lv' := [(2, .int (0 : Int32)), (0, va_rf (some h0)), (1, .int x1)]) hx hb dX5_burdenNow_1 rfl hl (by decide) (by first | rfl | simp [List.filter_cons, z_cat, z_catI, z_catJ, z_catF, z_catD]) (fun ls hl => ?_)
  obtain ⟨I_2, ⟨n_21, hI⟩, hB_2⟩ := hw
  have hL_2 : ∀ (n_4 : Nat) (x_1 : Int32) (hp_2 : zHp) (nx_3 : Nat) (H : Heap) (locs : List Loc) (ls : Array Slot), I_2 n_4 x_1 hp_2 nx_3 → lv_has ls 3 [(0, va_rf (some h0)), (1, .int x1), (2, .int x_1)] → zHd g hp_2 H → H.size = nx_3 → va_S (zAd g) s.heap H locs → W p l e (zrm (d + 1) 0 0) s m ([.ref h0, .int x1] : List Value).toArray below meth c H locs 0 0 (MQ below (zQi g Post) ([.ref h0, .int x1] : List Value).toArray s 0 0 (zAd g)) (F0 m 2 ls []) := by
    intro n_4
    induction n_4 using Nat.strongRecOn with
    | _ n_4 ih_2 =>
      intro x_1 hp_2 nx_3 H locs ls hw hl hH hz hS
      have hw := hB_2 n_4 x_1 hp_2 nx_3 hw
      refine lv_iload_n hx hb dX5_burdenNow_2 rfl (lv_at hl 2 rfl) ?_
      refine lv_bipush (v := (24 : Int32)) hx hb dX5_burdenNow_3 (by decide) ?_
      refine lv_icmp_ge (tgt := 21) hx hb dX5_burdenNow_5 (by decide) (fun hc => ?_) (fun hc => ?_)
      · have hw := hw.1 hc
        refine zr_aload_n (r := some h0) hx hb dX5_burdenNow_21 rfl (lv_at hl 0 rfl) ?_
        refine lv_iload_n hx hb dX5_burdenNow_22 rfl (lv_at hl 1 rfl) ?_
        obtain ⟨a_8, ci_9, fs_10, er, he, hc, hw⟩ := zo_e hw
        obtain rfl := List.mem_singleton.mp hc
        refine zr_calli (zw_runV (As := [.int x1]) hk hH hz hS hl.1 er hw (cwV 1 hts (lw_V q2977 q2979 qs78 q162 q2980) rfl rfl rfl (by decide +kernel) (z_room (Nat.le_of_ble_eq_true rfl))) he rfl rfl rfl (Nat.le_of_ble_eq_true rfl) dX5_burdenNow_23 ⟨Nat.le_of_ble_eq_true rfl, Nat.le_of_ble_eq_true rfl⟩) hS (fun x_7 hp_5 nx_6 hw H locs hH hz hS => ?_)
        exact zr_iret hk hr hH hz hS hw (Nat.le_of_ble_eq_true rfl) (Nat.le_of_ble_eq_true rfl) dX5_burdenNow_26
      · have hw := hw.2 hc
        refine zr_aload_n (r := some h0) hx hb dX5_burdenNow_8 rfl (lv_at hl 0 rfl) ?_
        obtain ⟨a_11, ci_12, fs_13, r_14, er, he, hc, hv, hw⟩ := zgR_e hw
        refine zw_get hk hH er he hv (fk_X5_64 hc) dX5_burdenNow_9 ?_
        refine lv_iload_n hx hb dX5_burdenNow_12 rfl (lv_at hl 2 rfl) ?_
        refine lv_iconst (v := (0 : Int32)) hx hb dX5_burdenNow_13 (by decide) ?_
        obtain ⟨a_15, n_16, f_17, er, he, hi, hA, hw⟩ := zaI_e hw
        obtain ⟨hp_18, eh⟩ : ∃ y : zHp, y = va_up hp_2 a_15 (some (.inl (g.2.1 3, n_16, .inl (va_up f_17 x_1.toNatClampNeg (vp_nar .boolean (0 : Int32)))))) := ⟨_, rfl⟩
        have hw := hw hp_18 eh
        refine zw_zast hk hH hz hS er he hi hA eh dX5_burdenNow_14 (fun H locs hH hz hS => ?_)
        obtain ⟨x_19, ex_19⟩ : ∃ y : Int32, y = x_1 + (1 : Int32) := ⟨_, rfl⟩
        have hw := hw x_19 ex_19
        refine lv_iinc (v := x_19) (lv' := [(2, .int x_19), (0, va_rf (some h0)), (1, .int x1)]) hx hb dX5_burdenNow_15 hl (k := 2) rfl (by rw [ex_19]; rfl) (by decide) (by first | rfl | simp [List.filter_cons, z_cat, z_catI, z_catJ, z_catF, z_catD]) (fun ls hl => ?_)
        refine lv_goto (tgt := 2) hx hb dX5_burdenNow_18 (by decide) ?_
        obtain ⟨k_20, hlt, hw⟩ := hw
        exact ih_2 k_20 hlt x_19 hp_18 nx_3 _ _ _ hw (lv_sub hl [1, 2, 0] rfl) hH hz hS
  exact hL_2 n_21 (0 : Int32) hp nx _ _ _ hI (lv_sub hl [1, 2, 0] rfl) hH hz hS
theorem fk_X5_67 {ci : Nat} (h : ci ∈ [5]) : zFk "WhatIfSheetModel" 67 ci 17 := by
  simp only [List.mem_cons, List.not_mem_nil, or_false] at h
  rcases h with rfl
  · exact ⟨RX5, TX5, 76, rfl, by decide, q2691⟩
def wp_X5_burdenOf (l : Launch) (g : zG) (d : Nat) (h0 : Nat) (x1 : Int32) (hp : zHp) (nx : Nat) (Post : Int32 → zHp → Nat → Prop) : Prop :=
  (zgR hp (some h0) [5] 16 fun r_4 =>
  (zaI (g.2.1 3) hp r_4 fun a_5 n_6 f_7 => vp_in x1 n_6 ∧ ∀ x_8 : Int32, x_8 = f_7 x1.toNatClampNeg →
  ((x_8 = 0 →
  (zo hp (some h0) [5] fun a_113 ci_114 fs_115 => zMt l g yX5_isInput cX5_isInput 2 (some .boolean) d 0 0 (.ref a_113 :: [.int x1]) hp nx (zQi g fun x_11 hp_9 nx_10 =>
  (∃ P_35 : Int64 → Int32 → zHp → Nat → Prop, (∀ (x_12 : Int64) (x_13 : Int32) (hp_14 : zHp) (nx_15 : Nat), P_35 x_12 x_13 hp_14 nx_15 →
  (∃ I_40 : Nat → Int64 → Int32 → Int32 → zHp → Nat → Prop, (∃ n_106, I_40 n_106 x_12 x_13 (0 : Int32) hp_14 nx_15) ∧ ∀ (n_21 : Nat) (x_16 : Int64) (x_17 : Int32) (x_18 : Int32) (hp_19 : zHp) (nx_20 : Nat), I_40 n_21 x_16 x_17 x_18 hp_19 nx_20 →
  (((24 : Int32) ≤ x_18 →
  (zgR hp_19 (some h0) [5] 16 fun r_25 =>
  (zaI (g.2.1 3) hp_19 r_25 fun a_26 n_27 f_28 => vp_in x1 n_27 ∧ zB g ≤ a_26 ∧ ∀ hp_29 : zHp, hp_29 = va_up hp_19 a_26 (some (.inl (g.2.1 3, n_27, .inl (va_up f_28 x1.toNatClampNeg (vp_nar .boolean (1 : Int32)))))) →
  (zgR hp_29 (some h0) [5] 17 fun r_33 =>
  (zMt l g yJ10_min_2 cJ10_min_2 4 (some .long) d 0 0 [.long x_16, .long (1000000 : Int64)] hp_29 nx_20 (zQl g fun x_36 hp_34 nx_35 =>
  (zaI (g.2.1 0) hp_34 r_33 fun a_37 n_38 f_39 => vp_in x1 n_38 ∧ zB g ≤ a_37 ∧ ∀ hp_40 : zHp, hp_40 = va_up hp_34 a_37 (some (.inl (g.2.1 0, n_38, .inl (va_up f_39 x1.toNatClampNeg x_36.toInt32)))) →
  (zgR hp_40 (some h0) [5] 17 fun r_44 =>
  (zaI (g.2.1 0) hp_40 r_44 fun a_45 n_46 f_47 => vp_in x1 n_46 ∧ ∀ x_48 : Int32, x_48 = f_47 x1.toNatClampNeg →
  (Post x_48 hp_40 nx_35)))))))))) ∧
  (¬ (24 : Int32) ≤ x_18 →
  (∃ P_130 : Int64 → Int32 → Int32 → zHp → Nat → Prop, (∀ (x_49 : Int64) (x_50 : Int32) (x_51 : Int32) (hp_52 : zHp) (nx_53 : Nat), P_130 x_49 x_50 x_51 hp_52 nx_53 →
  (∀ x_54 : Int32, x_54 = x_51 + (1 : Int32) →
  (∃ k_55, k_55 < n_21 ∧ I_40 k_55 x_49 x_50 x_54 hp_52 nx_53))) ∧
  ((((x_17 >>> (x_18 &&& 31)) &&& (1 : Int32)) = 0 →
  P_130 x_16 x_17 x_18 hp_19 nx_20) ∧
  (¬ ((x_17 >>> (x_18 &&& 31)) &&& (1 : Int32)) = 0 →
  (zo hp_19 (some h0) [5] fun a_103 ci_104 fs_105 => zMt l g yX5_isInput cX5_isInput 2 (some .boolean) d 0 0 (.ref a_103 :: [.int x_18]) hp_19 nx_20 (zQi g fun x_58 hp_56 nx_57 =>
  ((x_58 = 0 →
  (∀ x_59 : Int64, x_59 = x_16 + (1 : Int64) →
  (∃ I_76 : Nat → Int64 → Int32 → Int32 → Int32 → zHp → Nat → Prop, (∃ n_102, I_76 n_102 x_59 x_17 x_18 (0 : Int32) hp_56 nx_57) ∧ ∀ (n_66 : Nat) (x_60 : Int64) (x_61 : Int32) (x_62 : Int32) (x_63 : Int32) (hp_64 : zHp) (nx_65 : Nat), I_76 n_66 x_60 x_61 x_62 x_63 hp_64 nx_65 →
  (((6 : Int32) ≤ x_63 →
  P_130 x_60 x_61 x_62 hp_64 nx_65) ∧
  (¬ (6 : Int32) ≤ x_63 →
  (zgR hp_64 (some h0) [5] 6 fun r_70 =>
  (zaI (g.2.1 3) hp_64 r_70 fun a_71 n_72 f_73 => vp_in x_63 n_72 ∧ ∀ x_74 : Int32, x_74 = f_73 x_63.toNatClampNeg →
  (∃ P_124 : Int64 → Int32 → Int32 → Int32 → zHp → Nat → Prop, (∀ (x_75 : Int64) (x_76 : Int32) (x_77 : Int32) (x_78 : Int32) (hp_79 : zHp) (nx_80 : Nat), P_124 x_75 x_76 x_77 x_78 hp_79 nx_80 →
  (∀ x_81 : Int32, x_81 = x_78 + (1 : Int32) →
  (∃ k_82, k_82 < n_66 ∧ I_76 k_82 x_75 x_76 x_77 x_81 hp_79 nx_80))) ∧
  ((x_74 = 0 →
  P_124 x_60 x_61 x_62 x_63 hp_64 nx_65) ∧
  (¬ x_74 = 0 →
  (zo hp_64 (some h0) [5] fun a_99 ci_100 fs_101 => zMt l g yX5_times cX5_times 3 (some .int) d 0 0 (.ref a_99 :: [.int x_62, .int x_63]) hp_64 nx_65 (zQi g fun x_85 hp_83 nx_84 =>
  ((x_85 ≤ 0 →
  P_124 x_60 x_61 x_62 x_63 hp_83 nx_84) ∧
  (¬ x_85 ≤ 0 →
  (zo hp_83 (some h0) [5] fun a_96 ci_97 fs_98 => zMt l g yX5_times cX5_times 3 (some .int) d 0 0 (.ref a_96 :: [.int x_62, .int x_63]) hp_83 nx_84 (zQi g fun x_88 hp_86 nx_87 =>
  (zo hp_86 (some h0) [5] fun a_93 ci_94 fs_95 => zMt l g yX5_burdenOfTable cX5_burdenOfTable 2 (some .int) d 0 0 (.ref a_93 :: [.int x_63]) hp_86 nx_87 (zQi g fun x_91 hp_89 nx_90 =>
  (∀ x_92 : Int64, x_92 = x_60 + (x_88.toInt64 * x_91.toInt64) →
  P_124 x_92 x_61 x_62 x_63 hp_89 nx_90))))))))))))))))))) ∧
  (¬ x_58 = 0 →
  P_130 x_16 x_17 x_18 hp_56 nx_57))))))))))) ∧
  ((x_11 = 0 →
  (zo hp_9 (some h0) [5] fun a_110 ci_111 fs_112 => zMt l g yX5_reached cX5_reached 5 (some .int) d 0 0 (.ref a_110 :: [.int x1]) hp_9 nx_10 (zQi g fun x_109 hp_107 nx_108 =>
  P_35 (0 : Int64) x_109 hp_107 nx_108))) ∧
  (¬ x_11 = 0 →
  P_35 (0 : Int64) (0 : Int32) hp_9 nx_10)))))) ∧
  (¬ x_8 = 0 →
  (zgR hp (some h0) [5] 17 fun r_119 =>
  (zaI (g.2.1 0) hp r_119 fun a_120 n_121 f_122 => vp_in x1 n_121 ∧ ∀ x_123 : Int32, x_123 = f_122 x1.toNatClampNeg →
  (Post x_123 hp nx)))))))
set_option maxHeartbeats 40000000 in
theorem met_X5_burdenOf {l : Launch} {g : zG} {d : Nat} {h0 : Nat} {x1 : Int32} {hp : zHp} {nx : Nat} {Post : Int32 → zHp → Nat → Prop} (hw : wp_X5_burdenOf l g d h0 x1 hp nx Post) : zMt l g yX5_burdenOf cX5_burdenOf 7 (some .int) (d + 1) 0 0 [.ref h0, .int x1] hp nx (zQi g Post) := by
  refine z_start (by decide) (Nat.le_of_ble_eq_true rfl) ?_
  intro p e s m below meth c hk hr hin hH hz ls hl
  have hx := hk.1.1
  have hb := hk.1.2.1
  have hown := hk.1.2.2.2.1
  have hts := hk.1.2.2.2.2
  have hS : va_S (zAd g) s.heap s.heap [] := va_S.rf
  have hl : lv_has ls 7 [(0, va_rf (some h0)), (1, .int x1)] := hl
  unfold wp_X5_burdenOf at hw
  refine zr_aload_n (r := some h0) hx hb dX5_burdenOf_0 rfl (lv_at hl 0 rfl) ?_
  obtain ⟨a_1, ci_2, fs_3, r_4, er, he, hc, hv, hw⟩ := zgR_e hw
  refine zw_get hk hH er he hv (fk_X5_64 hc) dX5_burdenOf_1 ?_
  refine lv_iload_n hx hb dX5_burdenOf_4 rfl (lv_at hl 1 rfl) ?_
  obtain ⟨a_5, n_6, f_7, er, he, hi, hw⟩ := zaI_e hw
  have hw := hw _ rfl
  refine zw_zald hk hH er he hi dX5_burdenOf_5 ?_
  generalize f_7 x1.toNatClampNeg = x_8 at hw ⊢
  refine lv_if_eq (tgt := 16) hx hb dX5_burdenOf_6 (by decide) (fun hc => ?_) (fun hc => ?_)
  · have hw := hw.1 hc
    refine lv_lconst (v := (0 : Int64)) hx hb dX5_burdenOf_16 (by decide) ?_
    refine lv_lstore_n (i := 2) (lv' := [(2, .long (0 : Int64)), (0, va_rf (some h0)), (1, .int x1)]) hx hb dX5_burdenOf_17 rfl hl (by decide) (by first | rfl | simp [List.filter_cons, z_cat, z_catI, z_catJ, z_catF, z_catD]) (fun ls hl => ?_)
    refine zr_aload_n (r := some h0) hx hb dX5_burdenOf_18 rfl (lv_at hl 1 rfl) ?_
    refine lv_iload_n hx hb dX5_burdenOf_19 rfl (lv_at hl 2 rfl) ?_
    obtain ⟨a_113, ci_114, fs_115, er, he, hc, hw⟩ := zo_e hw
    obtain rfl := List.mem_singleton.mp hc
    refine zr_calli (zw_runV (As := [.int x1]) hk hH hz hS hl.1 er hw (cwV 1 hts (lw_V q2919 q2921 qs69 q162 q2922) rfl rfl rfl (by decide +kernel) (z_room (Nat.le_of_ble_eq_true rfl))) he rfl rfl rfl (Nat.le_of_ble_eq_true rfl) dX5_burdenOf_20 ⟨Nat.le_of_ble_eq_true rfl, Nat.le_of_ble_eq_true rfl⟩) hS (fun x_11 hp_9 nx_10 hw H locs hH hz hS => ?_)
    obtain ⟨P_35, hP_35, hw⟩ := hw
    have hJ_35 : ∀ (x_12 : Int64) (x_13 : Int32) (hp_14 : zHp) (nx_15 : Nat) (H : Heap) (locs : List Loc) (ls : Array Slot), P_35 x_12 x_13 hp_14 nx_15 → lv_has ls 7 [(0, va_rf (some h0)), (1, .int x1), (2, .long x_12)] → zHd g hp_14 H → H.size = nx_15 → va_S (zAd g) s.heap H locs → W p l e (zrm (d + 1) 0 0) s m ([.ref h0, .int x1] : List Value).toArray below meth c H locs 0 0 (MQ below (zQi g Post) ([.ref h0, .int x1] : List Value).toArray s 0 0 (zAd g)) (F0 m 35 ls [.int x_13]) := by
      intro x_12 x_13 hp_14 nx_15 H locs ls hw hl hH hz hS
      have hw := hP_35 x_12 x_13 hp_14 nx_15 hw
      refine lv_istore (lv' := [(4, .int x_13), (0, va_rf (some h0)), (1, .int x1), (2, .long x_12)]) hx hb dX5_burdenOf_35 hl (by decide) (by first | rfl | simp [List.filter_cons, z_cat, z_catI, z_catJ, z_catF, z_catD]) (fun ls hl => ?_)
      refine lv_iconst (v := (0 : Int32)) hx hb dX5_burdenOf_37 (by decide) ?_
      refine lv_istore (lv' := [(5, .int (0 : Int32)), (4, .int x_13), (0, va_rf (some h0)), (1, .int x1), (2, .long x_12)]) hx hb dX5_burdenOf_38 hl (by decide) (by first | rfl | simp [List.filter_cons, z_cat, z_catI, z_catJ, z_catF, z_catD]) (fun ls hl => ?_)
      obtain ⟨I_40, ⟨n_106, hI⟩, hB_40⟩ := hw
      have hL_40 : ∀ (n_21 : Nat) (x_16 : Int64) (x_17 : Int32) (x_18 : Int32) (hp_19 : zHp) (nx_20 : Nat) (H : Heap) (locs : List Loc) (ls : Array Slot), I_40 n_21 x_16 x_17 x_18 hp_19 nx_20 → lv_has ls 7 [(0, va_rf (some h0)), (1, .int x1), (2, .long x_16), (4, .int x_17), (5, .int x_18)] → zHd g hp_19 H → H.size = nx_20 → va_S (zAd g) s.heap H locs → W p l e (zrm (d + 1) 0 0) s m ([.ref h0, .int x1] : List Value).toArray below meth c H locs 0 0 (MQ below (zQi g Post) ([.ref h0, .int x1] : List Value).toArray s 0 0 (zAd g)) (F0 m 40 ls []) := by
        intro n_21
        induction n_21 using Nat.strongRecOn with
        | _ n_21 ih_40 =>
          intro x_16 x_17 x_18 hp_19 nx_20 H locs ls hw hl hH hz hS
          have hw := hB_40 n_21 x_16 x_17 x_18 hp_19 nx_20 hw
          refine lv_iload hx hb dX5_burdenOf_40 (lv_at hl 4 rfl) ?_
          refine lv_bipush (v := (24 : Int32)) hx hb dX5_burdenOf_42 (by decide) ?_
          refine lv_icmp_ge (tgt := 136) hx hb dX5_burdenOf_44 (by decide) (fun hc => ?_) (fun hc => ?_)
          · have hw := hw.1 hc
            refine zr_aload_n (r := some h0) hx hb dX5_burdenOf_136 rfl (lv_at hl 0 rfl) ?_
            obtain ⟨a_22, ci_23, fs_24, r_25, er, he, hc, hv, hw⟩ := zgR_e hw
            refine zw_get hk hH er he hv (fk_X5_64 hc) dX5_burdenOf_137 ?_
            refine lv_iload_n hx hb dX5_burdenOf_140 rfl (lv_at hl 1 rfl) ?_
            refine lv_iconst (v := (1 : Int32)) hx hb dX5_burdenOf_141 (by decide) ?_
            obtain ⟨a_26, n_27, f_28, er, he, hi, hA, hw⟩ := zaI_e hw
            obtain ⟨hp_29, eh⟩ : ∃ y : zHp, y = va_up hp_19 a_26 (some (.inl (g.2.1 3, n_27, .inl (va_up f_28 x1.toNatClampNeg (vp_nar .boolean (1 : Int32)))))) := ⟨_, rfl⟩
            have hw := hw hp_29 eh
            refine zw_zast hk hH hz hS er he hi hA eh dX5_burdenOf_142 (fun H locs hH hz hS => ?_)
            refine zr_aload_n (r := some h0) hx hb dX5_burdenOf_143 rfl (lv_at hl 0 rfl) ?_
            obtain ⟨a_30, ci_31, fs_32, r_33, er, he, hc, hv, hw⟩ := zgR_e hw
            refine zw_get hk hH er he hv (fk_X5_67 hc) dX5_burdenOf_144 ?_
            refine lv_iload_n hx hb dX5_burdenOf_147 rfl (lv_at hl 1 rfl) ?_
            refine lv_lload_n hx hb dX5_burdenOf_148 rfl (lv_at hl 2 rfl) ?_
            refine lv_ldc2 hx hb hown (hts _ q2991) dX5_burdenOf_149 ?_
            refine zr_calll (zr_runS (As := [.long x_16, .long (1000000 : Int64)]) hk hH hz hS hl.1 hw (va_cwS 2 hts (lw_S q2992 q2993 q143 q2994) rfl rfl rfl (by decide +kernel) (z_room (Nat.le_of_ble_eq_true rfl))) rfl rfl (by simp only [List.map_cons, List.map_nil, z_cat]; exact Nat.le_of_ble_eq_true rfl) dX5_burdenOf_152 ⟨Nat.le_of_ble_eq_true rfl, Nat.le_of_ble_eq_true rfl⟩) hS (fun x_36 hp_34 nx_35 hw H locs hH hz hS => ?_)
            refine lv_l2i hx hb dX5_burdenOf_155 rfl ?_
            obtain ⟨a_37, n_38, f_39, er, he, hi, hA, hw⟩ := zaI_e hw
            obtain ⟨hp_40, eh⟩ : ∃ y : zHp, y = va_up hp_34 a_37 (some (.inl (g.2.1 0, n_38, .inl (va_up f_39 x1.toNatClampNeg x_36.toInt32)))) := ⟨_, rfl⟩
            have hw := hw hp_40 eh
            refine zw_iast hk hH hz hS er he hi hA eh dX5_burdenOf_156 (fun H locs hH hz hS => ?_)
            refine zr_aload_n (r := some h0) hx hb dX5_burdenOf_157 rfl (lv_at hl 0 rfl) ?_
            obtain ⟨a_41, ci_42, fs_43, r_44, er, he, hc, hv, hw⟩ := zgR_e hw
            refine zw_get hk hH er he hv (fk_X5_67 hc) dX5_burdenOf_158 ?_
            refine lv_iload_n hx hb dX5_burdenOf_161 rfl (lv_at hl 1 rfl) ?_
            obtain ⟨a_45, n_46, f_47, er, he, hi, hw⟩ := zaI_e hw
            have hw := hw _ rfl
            refine zw_iald hk hH er he hi dX5_burdenOf_162 ?_
            generalize f_47 x1.toNatClampNeg = x_48 at hw ⊢
            exact zr_iret hk hr hH hz hS hw (Nat.le_of_ble_eq_true rfl) (Nat.le_of_ble_eq_true rfl) dX5_burdenOf_163
          · have hw := hw.2 hc
            refine lv_iload hx hb dX5_burdenOf_47 (lv_at hl 3 rfl) ?_
            refine lv_iload hx hb dX5_burdenOf_49 (lv_at hl 4 rfl) ?_
            refine lv_ishr hx hb dX5_burdenOf_51 ?_
            refine lv_iconst (v := (1 : Int32)) hx hb dX5_burdenOf_52 (by decide) ?_
            refine lv_iand hx hb dX5_burdenOf_53 ?_
            obtain ⟨P_130, hP_130, hw⟩ := hw
            have hJ_130 : ∀ (x_49 : Int64) (x_50 : Int32) (x_51 : Int32) (hp_52 : zHp) (nx_53 : Nat) (H : Heap) (locs : List Loc) (ls : Array Slot), P_130 x_49 x_50 x_51 hp_52 nx_53 → lv_has ls 7 [(0, va_rf (some h0)), (1, .int x1), (2, .long x_49), (4, .int x_50), (5, .int x_51)] → zHd g hp_52 H → H.size = nx_53 → va_S (zAd g) s.heap H locs → W p l e (zrm (d + 1) 0 0) s m ([.ref h0, .int x1] : List Value).toArray below meth c H locs 0 0 (MQ below (zQi g Post) ([.ref h0, .int x1] : List Value).toArray s 0 0 (zAd g)) (F0 m 130 ls []) := by
              intro x_49 x_50 x_51 hp_52 nx_53 H locs ls hw hl hH hz hS
              have hw := hP_130 x_49 x_50 x_51 hp_52 nx_53 hw
              obtain ⟨x_54, ex_54⟩ : ∃ y : Int32, y = x_51 + (1 : Int32) := ⟨_, rfl⟩
              have hw := hw x_54 ex_54
              refine lv_iinc (v := x_54) (lv' := [(5, .int x_54), (0, va_rf (some h0)), (1, .int x1), (2, .long x_49), (4, .int x_50)]) hx hb dX5_burdenOf_130 hl (k := 4) rfl (by rw [ex_54]; rfl) (by decide) (by first | rfl | simp [List.filter_cons, z_cat, z_catI, z_catJ, z_catF, z_catD]) (fun ls hl => ?_)
              refine lv_goto (tgt := 40) hx hb dX5_burdenOf_133 (by decide) ?_
              obtain ⟨k_55, hlt, hw⟩ := hw
              exact ih_40 k_55 hlt x_49 x_50 x_54 hp_52 nx_53 _ _ _ hw (lv_sub hl [1, 2, 3, 4, 0] rfl) hH hz hS
            refine lv_if_eq (tgt := 130) hx hb dX5_burdenOf_54 (by decide) (fun hc => ?_) (fun hc => ?_)
            · have hw := hw.1 hc
              exact hJ_130 x_16 x_17 x_18 hp_19 nx_20 _ _ _ hw hl hH hz hS
            · have hw := hw.2 hc
              refine zr_aload_n (r := some h0) hx hb dX5_burdenOf_57 rfl (lv_at hl 0 rfl) ?_
              refine lv_iload hx hb dX5_burdenOf_58 (lv_at hl 4 rfl) ?_
              obtain ⟨a_103, ci_104, fs_105, er, he, hc, hw⟩ := zo_e hw
              obtain rfl := List.mem_singleton.mp hc
              refine zr_calli (zw_runV (As := [.int x_18]) hk hH hz hS hl.1 er hw (cwV 1 hts (lw_V q2919 q2921 qs69 q162 q2922) rfl rfl rfl (by decide +kernel) (z_room (Nat.le_of_ble_eq_true rfl))) he rfl rfl rfl (Nat.le_of_ble_eq_true rfl) dX5_burdenOf_60 ⟨Nat.le_of_ble_eq_true rfl, Nat.le_of_ble_eq_true rfl⟩) hS (fun x_58 hp_56 nx_57 hw H locs hH hz hS => ?_)
              refine lv_if_eq (tgt := 69) hx hb dX5_burdenOf_63 (by decide) (fun hc => ?_) (fun hc => ?_)
              · have hw := hw.1 hc
                refine lv_lload_n hx hb dX5_burdenOf_69 rfl (lv_at hl 2 rfl) ?_
                refine lv_lconst (v := (1 : Int64)) hx hb dX5_burdenOf_70 (by decide) ?_
                refine lv_ladd hx hb dX5_burdenOf_71 ?_
                refine lv_topl (fun x_59 ex_59 => ?_)
                have hw := hw x_59 ex_59
                refine lv_lstore_n (i := 2) (lv' := [(2, .long x_59), (0, va_rf (some h0)), (1, .int x1), (4, .int x_17), (5, .int x_18)]) hx hb dX5_burdenOf_72 rfl hl (by decide) (by first | rfl | simp [List.filter_cons, z_cat, z_catI, z_catJ, z_catF, z_catD]) (fun ls hl => ?_)
                refine lv_iconst (v := (0 : Int32)) hx hb dX5_burdenOf_73 (by decide) ?_
                refine lv_istore (lv' := [(6, .int (0 : Int32)), (2, .long x_59), (0, va_rf (some h0)), (1, .int x1), (4, .int x_17), (5, .int x_18)]) hx hb dX5_burdenOf_74 hl (by decide) (by first | rfl | simp [List.filter_cons, z_cat, z_catI, z_catJ, z_catF, z_catD]) (fun ls hl => ?_)
                obtain ⟨I_76, ⟨n_102, hI⟩, hB_76⟩ := hw
                have hL_76 : ∀ (n_66 : Nat) (x_60 : Int64) (x_61 : Int32) (x_62 : Int32) (x_63 : Int32) (hp_64 : zHp) (nx_65 : Nat) (H : Heap) (locs : List Loc) (ls : Array Slot), I_76 n_66 x_60 x_61 x_62 x_63 hp_64 nx_65 → lv_has ls 7 [(0, va_rf (some h0)), (1, .int x1), (2, .long x_60), (4, .int x_61), (5, .int x_62), (6, .int x_63)] → zHd g hp_64 H → H.size = nx_65 → va_S (zAd g) s.heap H locs → W p l e (zrm (d + 1) 0 0) s m ([.ref h0, .int x1] : List Value).toArray below meth c H locs 0 0 (MQ below (zQi g Post) ([.ref h0, .int x1] : List Value).toArray s 0 0 (zAd g)) (F0 m 76 ls []) := by
                  intro n_66
                  induction n_66 using Nat.strongRecOn with
                  | _ n_66 ih_76 =>
                    intro x_60 x_61 x_62 x_63 hp_64 nx_65 H locs ls hw hl hH hz hS
                    have hw := hB_76 n_66 x_60 x_61 x_62 x_63 hp_64 nx_65 hw
                    refine lv_iload hx hb dX5_burdenOf_76 (lv_at hl 5 rfl) ?_
                    refine lv_bipush (v := (6 : Int32)) hx hb dX5_burdenOf_78 (by decide) ?_
                    refine lv_icmp_ge (tgt := 130) hx hb dX5_burdenOf_80 (by decide) (fun hc => ?_) (fun hc => ?_)
                    · have hw := hw.1 hc
                      exact hJ_130 x_60 x_61 x_62 hp_64 nx_65 _ _ _ hw (lv_sub hl [0, 1, 2, 3, 4] rfl) hH hz hS
                    · have hw := hw.2 hc
                      refine zr_aload_n (r := some h0) hx hb dX5_burdenOf_83 rfl (lv_at hl 0 rfl) ?_
                      obtain ⟨a_67, ci_68, fs_69, r_70, er, he, hc, hv, hw⟩ := zgR_e hw
                      refine zw_get hk hH er he hv (fk_X5_34 hc) dX5_burdenOf_84 ?_
                      refine lv_iload hx hb dX5_burdenOf_87 (lv_at hl 5 rfl) ?_
                      obtain ⟨a_71, n_72, f_73, er, he, hi, hw⟩ := zaI_e hw
                      have hw := hw _ rfl
                      refine zw_zald hk hH er he hi dX5_burdenOf_89 ?_
                      generalize f_73 x_63.toNatClampNeg = x_74 at hw ⊢
                      obtain ⟨P_124, hP_124, hw⟩ := hw
                      have hJ_124 : ∀ (x_75 : Int64) (x_76 : Int32) (x_77 : Int32) (x_78 : Int32) (hp_79 : zHp) (nx_80 : Nat) (H : Heap) (locs : List Loc) (ls : Array Slot), P_124 x_75 x_76 x_77 x_78 hp_79 nx_80 → lv_has ls 7 [(0, va_rf (some h0)), (1, .int x1), (2, .long x_75), (4, .int x_76), (5, .int x_77), (6, .int x_78)] → zHd g hp_79 H → H.size = nx_80 → va_S (zAd g) s.heap H locs → W p l e (zrm (d + 1) 0 0) s m ([.ref h0, .int x1] : List Value).toArray below meth c H locs 0 0 (MQ below (zQi g Post) ([.ref h0, .int x1] : List Value).toArray s 0 0 (zAd g)) (F0 m 124 ls []) := by
                        intro x_75 x_76 x_77 x_78 hp_79 nx_80 H locs ls hw hl hH hz hS
                        have hw := hP_124 x_75 x_76 x_77 x_78 hp_79 nx_80 hw
                        obtain ⟨x_81, ex_81⟩ : ∃ y : Int32, y = x_78 + (1 : Int32) := ⟨_, rfl⟩
                        have hw := hw x_81 ex_81
                        refine lv_iinc (v := x_81) (lv' := [(6, .int x_81), (0, va_rf (some h0)), (1, .int x1), (2, .long x_75), (4, .int x_76), (5, .int x_77)]) hx hb dX5_burdenOf_124 hl (k := 5) rfl (by rw [ex_81]; rfl) (by decide) (by first | rfl | simp [List.filter_cons, z_cat, z_catI, z_catJ, z_catF, z_catD]) (fun ls hl => ?_)
                        refine lv_goto (tgt := 76) hx hb dX5_burdenOf_127 (by decide) ?_
                        obtain ⟨k_82, hlt, hw⟩ := hw
                        exact ih_76 k_82 hlt x_75 x_76 x_77 x_81 hp_79 nx_80 _ _ _ hw (lv_sub hl [1, 2, 3, 4, 5, 0] rfl) hH hz hS
                      refine lv_if_eq (tgt := 124) hx hb dX5_burdenOf_90 (by decide) (fun hc => ?_) (fun hc => ?_)
                      · have hw := hw.1 hc
                        exact hJ_124 x_60 x_61 x_62 x_63 hp_64 nx_65 _ _ _ hw hl hH hz hS
                      · have hw := hw.2 hc
                        refine zr_aload_n (r := some h0) hx hb dX5_burdenOf_93 rfl (lv_at hl 0 rfl) ?_
                        refine lv_iload hx hb dX5_burdenOf_94 (lv_at hl 4 rfl) ?_
                        refine lv_iload hx hb dX5_burdenOf_96 (lv_at hl 5 rfl) ?_
                        obtain ⟨a_99, ci_100, fs_101, er, he, hc, hw⟩ := zo_e hw
                        obtain rfl := List.mem_singleton.mp hc
                        refine zr_calli (zw_runV (As := [.int x_62, .int x_63]) hk hH hz hS hl.1 er hw (cwV 2 hts (lw_V q2961 q2963 qs74 q162 q2964) rfl rfl rfl (by decide +kernel) (z_room (Nat.le_of_ble_eq_true rfl))) he rfl rfl rfl (Nat.le_of_ble_eq_true rfl) dX5_burdenOf_98 ⟨Nat.le_of_ble_eq_true rfl, Nat.le_of_ble_eq_true rfl⟩) hS (fun x_85 hp_83 nx_84 hw H locs hH hz hS => ?_)
                        refine lv_if_le (tgt := 124) hx hb dX5_burdenOf_101 (by decide) (fun hc => ?_) (fun hc => ?_)
                        · have hw := hw.1 hc
                          exact hJ_124 x_60 x_61 x_62 x_63 hp_83 nx_84 _ _ _ hw hl hH hz hS
                        · have hw := hw.2 hc
                          refine lv_lload_n hx hb dX5_burdenOf_104 rfl (lv_at hl 2 rfl) ?_
                          refine zr_aload_n (r := some h0) hx hb dX5_burdenOf_105 rfl (lv_at hl 0 rfl) ?_
                          refine lv_iload hx hb dX5_burdenOf_106 (lv_at hl 4 rfl) ?_
                          refine lv_iload hx hb dX5_burdenOf_108 (lv_at hl 5 rfl) ?_
                          obtain ⟨a_96, ci_97, fs_98, er, he, hc, hw⟩ := zo_e hw
                          obtain rfl := List.mem_singleton.mp hc
                          refine zr_calli (zw_runV (As := [.int x_62, .int x_63]) hk hH hz hS hl.1 er hw (cwV 2 hts (lw_V q2961 q2963 qs74 q162 q2964) rfl rfl rfl (by decide +kernel) (z_room (Nat.le_of_ble_eq_true rfl))) he rfl rfl rfl (Nat.le_of_ble_eq_true rfl) dX5_burdenOf_110 ⟨Nat.le_of_ble_eq_true rfl, Nat.le_of_ble_eq_true rfl⟩) hS (fun x_88 hp_86 nx_87 hw H locs hH hz hS => ?_)
                          refine lv_i2l hx hb dX5_burdenOf_113 rfl ?_
                          refine zr_aload_n (r := some h0) hx hb dX5_burdenOf_114 rfl (lv_at hl 0 rfl) ?_
                          refine lv_iload hx hb dX5_burdenOf_115 (lv_at hl 5 rfl) ?_
                          obtain ⟨a_93, ci_94, fs_95, er, he, hc, hw⟩ := zo_e hw
                          obtain rfl := List.mem_singleton.mp hc
                          refine zr_calli (zw_runV (As := [.int x_63]) hk hH hz hS hl.1 er hw (cwV 1 hts (lw_V q2981 q2983 qs79 q162 q2984) rfl rfl rfl (by decide +kernel) (z_room (Nat.le_of_ble_eq_true rfl))) he rfl rfl rfl (Nat.le_of_ble_eq_true rfl) dX5_burdenOf_117 ⟨Nat.le_of_ble_eq_true rfl, Nat.le_of_ble_eq_true rfl⟩) hS (fun x_91 hp_89 nx_90 hw H locs hH hz hS => ?_)
                          refine lv_i2l hx hb dX5_burdenOf_120 rfl ?_
                          refine lv_lmul hx hb dX5_burdenOf_121 ?_
                          refine lv_ladd hx hb dX5_burdenOf_122 ?_
                          refine lv_topl (fun x_92 ex_92 => ?_)
                          have hw := hw x_92 ex_92
                          refine lv_lstore_n (i := 2) (lv' := [(2, .long x_92), (0, va_rf (some h0)), (1, .int x1), (4, .int x_61), (5, .int x_62), (6, .int x_63)]) hx hb dX5_burdenOf_123 rfl hl (by decide) (by first | rfl | simp [List.filter_cons, z_cat, z_catI, z_catJ, z_catF, z_catD]) (fun ls hl => ?_)
                          exact hJ_124 x_92 x_61 x_62 x_63 hp_89 nx_90 _ _ _ hw (lv_sub hl [1, 2, 0, 3, 4, 5] rfl) hH hz hS
                exact hL_76 n_102 x_59 x_17 x_18 (0 : Int32) hp_56 nx_57 _ _ _ hI (lv_sub hl [2, 3, 1, 4, 5, 0] rfl) hH hz hS
              · have hw := hw.2 hc
                refine lv_goto (tgt := 130) hx hb dX5_burdenOf_66 (by decide) ?_
                exact hJ_130 x_16 x_17 x_18 hp_56 nx_57 _ _ _ hw hl hH hz hS
      exact hL_40 n_106 x_12 x_13 (0 : Int32) hp_14 nx_15 _ _ _ hI (lv_sub hl [2, 3, 4, 1, 0] rfl) hH hz hS
    refine lv_if_eq (tgt := 30) hx hb dX5_burdenOf_23 (by decide) (fun hc => ?_) (fun hc => ?_)
    · have hw := hw.1 hc
      refine zr_aload_n (r := some h0) hx hb dX5_burdenOf_30 rfl (lv_at hl 1 rfl) ?_
      refine lv_iload_n hx hb dX5_burdenOf_31 rfl (lv_at hl 2 rfl) ?_
      obtain ⟨a_110, ci_111, fs_112, er, he, hc, hw⟩ := zo_e hw
      obtain rfl := List.mem_singleton.mp hc
      refine zr_calli (zw_runV (As := [.int x1]) hk hH hz hS hl.1 er hw (cwV 1 hts (lw_V q2969 q2971 qs76 q162 q2972) rfl rfl rfl (by decide +kernel) (z_room (Nat.le_of_ble_eq_true rfl))) he rfl rfl rfl (Nat.le_of_ble_eq_true rfl) dX5_burdenOf_32 ⟨Nat.le_of_ble_eq_true rfl, Nat.le_of_ble_eq_true rfl⟩) hS (fun x_109 hp_107 nx_108 hw H locs hH hz hS => ?_)
      exact hJ_35 (0 : Int64) x_109 hp_107 nx_108 _ _ _ hw (lv_sub hl [1, 2, 0] rfl) hH hz hS
    · have hw := hw.2 hc
      refine lv_iconst (v := (0 : Int32)) hx hb dX5_burdenOf_26 (by decide) ?_
      refine lv_goto (tgt := 35) hx hb dX5_burdenOf_27 (by decide) ?_
      exact hJ_35 (0 : Int64) (0 : Int32) hp_9 nx_10 _ _ _ hw (lv_sub hl [1, 2, 0] rfl) hH hz hS
  · have hw := hw.2 hc
    refine zr_aload_n (r := some h0) hx hb dX5_burdenOf_9 rfl (lv_at hl 0 rfl) ?_
    obtain ⟨a_116, ci_117, fs_118, r_119, er, he, hc, hv, hw⟩ := zgR_e hw
    refine zw_get hk hH er he hv (fk_X5_67 hc) dX5_burdenOf_10 ?_
    refine lv_iload_n hx hb dX5_burdenOf_13 rfl (lv_at hl 1 rfl) ?_
    obtain ⟨a_120, n_121, f_122, er, he, hi, hw⟩ := zaI_e hw
    have hw := hw _ rfl
    refine zw_iald hk hH er he hi dX5_burdenOf_14 ?_
    generalize f_122 x1.toNatClampNeg = x_123 at hw ⊢
    exact zr_iret hk hr hH hz hS hw (Nat.le_of_ble_eq_true rfl) (Nat.le_of_ble_eq_true rfl) dX5_burdenOf_15
def wp_X5_burdenOfTable (l : Launch) (g : zG) (d : Nat) (h0 : Nat) (x1 : Int32) (hp : zHp) (nx : Nat) (Post : Int32 → zHp → Nat → Prop) : Prop :=
  (zgR hp (some h0) [5] 7 fun r_4 =>
  (zaI (g.2.1 0) hp r_4 fun a_5 n_6 f_7 => vp_in x1 n_6 ∧ ∀ x_8 : Int32, x_8 = f_7 x1.toNatClampNeg →
  (zo hp (some h0) [5] fun a_21 ci_22 fs_23 => zMt l g yX5_burdenOf cX5_burdenOf 7 (some .int) d 0 0 (.ref a_21 :: [.int x_8]) hp nx (zQi g fun x_11 hp_9 nx_10 =>
  (zo hp_9 (some h0) [5] fun a_18 ci_19 fs_20 => zMt l g yX5_cases cX5_cases 2 (some .int) d 0 0 (.ref a_18 :: [.int x1]) hp_9 nx_10 (zQi g fun x_14 hp_12 nx_13 =>
  (zMt l g yJ10_min cJ10_min 2 (some .int) d 0 0 [.int (1000000 : Int32), .int (x_11 * x_14)] hp_12 nx_13 (zQi g fun x_17 hp_15 nx_16 =>
  (Post x_17 hp_15 nx_16)))))))))
set_option maxHeartbeats 40000000 in
theorem met_X5_burdenOfTable {l : Launch} {g : zG} {d : Nat} {h0 : Nat} {x1 : Int32} {hp : zHp} {nx : Nat} {Post : Int32 → zHp → Nat → Prop} (hw : wp_X5_burdenOfTable l g d h0 x1 hp nx Post) : zMt l g yX5_burdenOfTable cX5_burdenOfTable 2 (some .int) (d + 1) 0 0 [.ref h0, .int x1] hp nx (zQi g Post) := by
  refine z_start (by decide) (Nat.le_of_ble_eq_true rfl) ?_
  intro p e s m below meth c hk hr hin hH hz ls hl
  have hx := hk.1.1
  have hb := hk.1.2.1
  have hown := hk.1.2.2.2.1
  have hts := hk.1.2.2.2.2
  have hS : va_S (zAd g) s.heap s.heap [] := va_S.rf
  have hl : lv_has ls 2 [(0, va_rf (some h0)), (1, .int x1)] := hl
  unfold wp_X5_burdenOfTable at hw
  refine lv_ldc hx hb hown (hts _ q2985) dX5_burdenOfTable_0 ?_
  refine zr_aload_n (r := some h0) hx hb dX5_burdenOfTable_2 rfl (lv_at hl 0 rfl) ?_
  refine zr_aload_n (r := some h0) hx hb dX5_burdenOfTable_3 rfl (lv_at hl 0 rfl) ?_
  obtain ⟨a_1, ci_2, fs_3, r_4, er, he, hc, hv, hw⟩ := zgR_e hw
  refine zw_get hk hH er he hv (fk_X5_37 hc) dX5_burdenOfTable_4 ?_
  refine lv_iload_n hx hb dX5_burdenOfTable_7 rfl (lv_at hl 1 rfl) ?_
  obtain ⟨a_5, n_6, f_7, er, he, hi, hw⟩ := zaI_e hw
  have hw := hw _ rfl
  refine zw_iald hk hH er he hi dX5_burdenOfTable_8 ?_
  generalize f_7 x1.toNatClampNeg = x_8 at hw ⊢
  obtain ⟨a_21, ci_22, fs_23, er, he, hc, hw⟩ := zo_e hw
  obtain rfl := List.mem_singleton.mp hc
  refine zr_calli (zw_runV (As := [.int x_8]) hk hH hz hS hl.1 er hw (cwV 1 hts (lw_V q2977 q2979 qs78 q162 q2980) rfl rfl rfl (by decide +kernel) (z_room (Nat.le_of_ble_eq_true rfl))) he rfl rfl rfl (Nat.le_of_ble_eq_true rfl) dX5_burdenOfTable_9 ⟨Nat.le_of_ble_eq_true rfl, Nat.le_of_ble_eq_true rfl⟩) hS (fun x_11 hp_9 nx_10 hw H locs hH hz hS => ?_)
  refine zr_aload_n (r := some h0) hx hb dX5_burdenOfTable_12 rfl (lv_at hl 0 rfl) ?_
  refine lv_iload_n hx hb dX5_burdenOfTable_13 rfl (lv_at hl 1 rfl) ?_
  obtain ⟨a_18, ci_19, fs_20, er, he, hc, hw⟩ := zo_e hw
  obtain rfl := List.mem_singleton.mp hc
  refine zr_calli (zw_runV (As := [.int x1]) hk hH hz hS hl.1 er hw (cwV 1 hts (lw_V q2986 q2988 qs80 q162 q2989) rfl rfl rfl (by decide +kernel) (z_room (Nat.le_of_ble_eq_true rfl))) he rfl rfl rfl (Nat.le_of_ble_eq_true rfl) dX5_burdenOfTable_14 ⟨Nat.le_of_ble_eq_true rfl, Nat.le_of_ble_eq_true rfl⟩) hS (fun x_14 hp_12 nx_13 hw H locs hH hz hS => ?_)
  refine lv_imul hx hb dX5_burdenOfTable_17 ?_
  refine zr_calli (zr_runS (As := [.int (1000000 : Int32), .int (x_11 * x_14)]) hk hH hz hS hl.1 hw (va_cwS 2 hts (lw_S q2990 q428 q143 q429) rfl rfl rfl (by decide +kernel) (z_room (Nat.le_of_ble_eq_true rfl))) rfl rfl (Nat.le_of_ble_eq_true rfl) dX5_burdenOfTable_18 ⟨Nat.le_of_ble_eq_true rfl, Nat.le_of_ble_eq_true rfl⟩) hS (fun x_17 hp_15 nx_16 hw H locs hH hz hS => ?_)
  exact zr_iret hk hr hH hz hS hw (Nat.le_of_ble_eq_true rfl) (Nat.le_of_ble_eq_true rfl) dX5_burdenOfTable_21
theorem fk_X5_46 {ci : Nat} (h : ci ∈ [5]) : zFk "WhatIfSheetModel" 46 ci 10 := by
  simp only [List.mem_cons, List.not_mem_nil, or_false] at h
  rcases h with rfl
  · exact ⟨RX5, TX5, 76, rfl, by decide, q2684⟩
def wp_X5_cases (l : Launch) (g : zG) (d : Nat) (h0 : Nat) (x1 : Int32) (hp : zHp) (nx : Nat) (Post : Int32 → zHp → Nat → Prop) : Prop :=
  (zgR hp (some h0) [5] 10 fun r_4 =>
  (zaI (g.2.1 0) hp r_4 fun a_5 n_6 f_7 => vp_in ((2 : Int32) * x1) n_6 ∧ ∀ x_8 : Int32, x_8 = f_7 ((2 : Int32) * x1).toNatClampNeg →
  (zgR hp (some h0) [5] 9 fun r_12 =>
  (zaI (g.2.1 0) hp r_12 fun a_13 n_14 f_15 => vp_in x1 n_14 ∧ ∀ x_16 : Int32, x_16 = f_15 x1.toNatClampNeg →
  (∃ P_32 : Int32 → Int32 → Prop, (∀ (x_17 : Int32) (x_18 : Int32), P_32 x_17 x_18 →
  (Post (x_17 * x_18) hp nx)) ∧
  ((x_16 = (-1 : Int32) →
  P_32 x_8 (1 : Int32)) ∧
  (¬ x_16 = (-1 : Int32) →
  (zgR hp (some h0) [5] 10 fun r_22 =>
  (zaI (g.2.1 0) hp r_22 fun a_23 n_24 f_25 => vp_in (((2 : Int32) * x1) + (1 : Int32)) n_24 ∧ ∀ x_26 : Int32, x_26 = f_25 (((2 : Int32) * x1) + (1 : Int32)).toNatClampNeg →
  P_32 x_8 x_26)))))))))
set_option maxHeartbeats 40000000 in
theorem met_X5_cases {l : Launch} {g : zG} {d : Nat} {h0 : Nat} {x1 : Int32} {hp : zHp} {nx : Nat} {Post : Int32 → zHp → Nat → Prop} (hw : wp_X5_cases l g d h0 x1 hp nx Post) : zMt l g yX5_cases cX5_cases 2 (some .int) (d + 1) 0 0 [.ref h0, .int x1] hp nx (zQi g Post) := by
  refine z_start (by decide) (Nat.le_of_ble_eq_true rfl) ?_
  intro p e s m below meth c hk hr hin hH hz ls hl
  have hx := hk.1.1
  have hb := hk.1.2.1
  have hown := hk.1.2.2.2.1
  have hts := hk.1.2.2.2.2
  have hS : va_S (zAd g) s.heap s.heap [] := va_S.rf
  have hl : lv_has ls 2 [(0, va_rf (some h0)), (1, .int x1)] := hl
  unfold wp_X5_cases at hw
  refine zr_aload_n (r := some h0) hx hb dX5_cases_0 rfl (lv_at hl 0 rfl) ?_
  obtain ⟨a_1, ci_2, fs_3, r_4, er, he, hc, hv, hw⟩ := zgR_e hw
  refine zw_get hk hH er he hv (fk_X5_46 hc) dX5_cases_1 ?_
  refine lv_iconst (v := (2 : Int32)) hx hb dX5_cases_4 (by decide) ?_
  refine lv_iload_n hx hb dX5_cases_5 rfl (lv_at hl 1 rfl) ?_
  refine lv_imul hx hb dX5_cases_6 ?_
  obtain ⟨a_5, n_6, f_7, er, he, hi, hw⟩ := zaI_e hw
  have hw := hw _ rfl
  refine zw_iald hk hH er he hi dX5_cases_7 ?_
  generalize f_7 ((2 : Int32) * x1).toNatClampNeg = x_8 at hw ⊢
  refine zr_aload_n (r := some h0) hx hb dX5_cases_8 rfl (lv_at hl 0 rfl) ?_
  obtain ⟨a_9, ci_10, fs_11, r_12, er, he, hc, hv, hw⟩ := zgR_e hw
  refine zw_get hk hH er he hv (fk_X5_43 hc) dX5_cases_9 ?_
  refine lv_iload_n hx hb dX5_cases_12 rfl (lv_at hl 1 rfl) ?_
  obtain ⟨a_13, n_14, f_15, er, he, hi, hw⟩ := zaI_e hw
  have hw := hw _ rfl
  refine zw_iald hk hH er he hi dX5_cases_13 ?_
  generalize f_15 x1.toNatClampNeg = x_16 at hw ⊢
  refine lv_iconst (v := (-1 : Int32)) hx hb dX5_cases_14 (by decide) ?_
  obtain ⟨P_32, hP_32, hw⟩ := hw
  have hJ_32 : ∀ (x_17 : Int32) (x_18 : Int32) (H : Heap) (locs : List Loc) (ls : Array Slot), P_32 x_17 x_18 → lv_has ls 2 [(0, va_rf (some h0)), (1, .int x1)] → zHd g hp H → H.size = nx → va_S (zAd g) s.heap H locs → W p l e (zrm (d + 1) 0 0) s m ([.ref h0, .int x1] : List Value).toArray below meth c H locs 0 0 (MQ below (zQi g Post) ([.ref h0, .int x1] : List Value).toArray s 0 0 (zAd g)) (F0 m 32 ls [.int x_18, .int x_17]) := by
    intro x_17 x_18 H locs ls hw hl hH hz hS
    have hw := hP_32 x_17 x_18 hw
    refine lv_imul hx hb dX5_cases_32 ?_
    exact zr_iret hk hr hH hz hS hw (Nat.le_of_ble_eq_true rfl) (Nat.le_of_ble_eq_true rfl) dX5_cases_33
  refine lv_icmp_ne (tgt := 22) hx hb dX5_cases_15 (by decide) (fun hc => ?_) (fun hc => ?_)
  · have hw := hw.2 hc
    refine zr_aload_n (r := some h0) hx hb dX5_cases_22 rfl (lv_at hl 0 rfl) ?_
    obtain ⟨a_19, ci_20, fs_21, r_22, er, he, hc, hv, hw⟩ := zgR_e hw
    refine zw_get hk hH er he hv (fk_X5_46 hc) dX5_cases_23 ?_
    refine lv_iconst (v := (2 : Int32)) hx hb dX5_cases_26 (by decide) ?_
    refine lv_iload_n hx hb dX5_cases_27 rfl (lv_at hl 1 rfl) ?_
    refine lv_imul hx hb dX5_cases_28 ?_
    refine lv_iconst (v := (1 : Int32)) hx hb dX5_cases_29 (by decide) ?_
    refine lv_iadd hx hb dX5_cases_30 ?_
    obtain ⟨a_23, n_24, f_25, er, he, hi, hw⟩ := zaI_e hw
    have hw := hw _ rfl
    refine zw_iald hk hH er he hi dX5_cases_31 ?_
    generalize f_25 (((2 : Int32) * x1) + (1 : Int32)).toNatClampNeg = x_26 at hw ⊢
    exact hJ_32 x_8 x_26 _ _ _ hw hl hH hz hS
  · have hw := hw.1 hc
    refine lv_iconst (v := (1 : Int32)) hx hb dX5_cases_18 (by decide) ?_
    refine lv_goto (tgt := 32) hx hb dX5_cases_19 (by decide) ?_
    exact hJ_32 x_8 (1 : Int32) _ _ _ hw hl hH hz hS
theorem fp_X5_247 {ci : Nat} (h : ci ∈ [5]) : zFp "WhatIfSheetModel" 247 ci 18 .int := by
  simp only [List.mem_cons, List.not_mem_nil, or_false] at h
  rcases h with rfl
  · exact ⟨RX5, TX5, 76, rfl, by decide, q2692, rfl, by decide +kernel⟩
theorem fp_X5_243 {ci : Nat} (h : ci ∈ [5]) : zFp "WhatIfSheetModel" 243 ci 26 .int := by
  simp only [List.mem_cons, List.not_mem_nil, or_false] at h
  rcases h with rfl
  · exact ⟨RX5, TX5, 76, rfl, by decide, q2700, rfl, by decide +kernel⟩
def wp_X5_tellNow (l : Launch) (g : zG) (d : Nat) (h0 : Nat) (x1 : Int32) (hp : zHp) (nx : Nat) (Post : zHp → Nat → Prop) : Prop :=
  (zpt g hp (some h0) [5] 18 (.int (0 : Int32)) fun hp_4 =>
  (zpt g hp_4 (some h0) [5] 26 (.int (0 : Int32)) fun hp_8 =>
  (zo hp_8 (some h0) [5] fun a_16 ci_17 fs_18 => zMt l g yX5_afresh cX5_afresh 2 none d 0 0 (.ref a_16 :: []) hp_8 nx (zQv g fun hp_9 nx_10 =>
  (zo hp_9 (some h0) [5] fun a_13 ci_14 fs_15 => zMt l g yX5_tell cX5_tell 3 none d 0 0 (.ref a_13 :: [.int x1]) hp_9 nx_10 (zQv g fun hp_11 nx_12 =>
  (Post hp_11 nx_12)))))))
set_option maxHeartbeats 40000000 in
theorem met_X5_tellNow {l : Launch} {g : zG} {d : Nat} {h0 : Nat} {x1 : Int32} {hp : zHp} {nx : Nat} {Post : zHp → Nat → Prop} (hw : wp_X5_tellNow l g d h0 x1 hp nx Post) : zMt l g yX5_tellNow cX5_tellNow 2 none (d + 1) 0 0 [.ref h0, .int x1] hp nx (zQv g Post) := by
  refine z_start (by decide) (Nat.le_of_ble_eq_true rfl) ?_
  intro p e s m below meth c hk hr hin hH hz ls hl
  have hx := hk.1.1
  have hb := hk.1.2.1
  have hown := hk.1.2.2.2.1
  have hts := hk.1.2.2.2.2
  have hS : va_S (zAd g) s.heap s.heap [] := va_S.rf
  have hl : lv_has ls 2 [(0, va_rf (some h0)), (1, .int x1)] := hl
  unfold wp_X5_tellNow at hw
  refine zr_aload_n (r := some h0) hx hb dX5_tellNow_0 rfl (lv_at hl 0 rfl) ?_
  refine lv_iconst (v := (0 : Int32)) hx hb dX5_tellNow_1 (by decide) ?_
  obtain ⟨a_1, ci_2, fs_3, hp_4, er, he, hc, hA, hkl, eh, hw⟩ := zpt_e hw
  refine zw_put hk hH hz hS er he hA hkl eh (fp_X5_247 hc) rfl rfl dX5_tellNow_2 (fun H locs hH hz hS => ?_)
  refine zr_aload_n (r := some h0) hx hb dX5_tellNow_5 rfl (lv_at hl 0 rfl) ?_
  refine lv_iconst (v := (0 : Int32)) hx hb dX5_tellNow_6 (by decide) ?_
  obtain ⟨a_5, ci_6, fs_7, hp_8, er, he, hc, hA, hkl, eh, hw⟩ := zpt_e hw
  refine zw_put hk hH hz hS er he hA hkl eh (fp_X5_243 hc) rfl rfl dX5_tellNow_7 (fun H locs hH hz hS => ?_)
  refine zr_aload_n (r := some h0) hx hb dX5_tellNow_10 rfl (lv_at hl 0 rfl) ?_
  obtain ⟨a_16, ci_17, fs_18, er, he, hc, hw⟩ := zo_e hw
  obtain rfl := List.mem_singleton.mp hc
  refine zr_callv (zw_runV (As := []) hk hH hz hS hl.1 er hw (cwV 0 hts (lw_V q2999 q3001 qs82 q162 q3002) rfl rfl rfl (by decide +kernel) (z_room (Nat.le_of_ble_eq_true rfl))) he rfl rfl rfl (Nat.le_of_ble_eq_true rfl) dX5_tellNow_11 ⟨Nat.le_of_ble_eq_true rfl, Nat.le_of_ble_eq_true rfl⟩) hS (fun hp_9 nx_10 hw H locs hH hz hS => ?_)
  refine zr_aload_n (r := some h0) hx hb dX5_tellNow_14 rfl (lv_at hl 0 rfl) ?_
  refine lv_iload_n hx hb dX5_tellNow_15 rfl (lv_at hl 1 rfl) ?_
  obtain ⟨a_13, ci_14, fs_15, er, he, hc, hw⟩ := zo_e hw
  obtain rfl := List.mem_singleton.mp hc
  refine zr_callv (zw_runV (As := [.int x1]) hk hH hz hS hl.1 er hw (cwV 1 hts (lw_V q3003 q3005 qs83 q162 q3006) rfl rfl rfl (by decide +kernel) (z_room (Nat.le_of_ble_eq_true rfl))) he rfl rfl rfl (Nat.le_of_ble_eq_true rfl) dX5_tellNow_16 ⟨Nat.le_of_ble_eq_true rfl, Nat.le_of_ble_eq_true rfl⟩) hS (fun hp_11 nx_12 hw H locs hH hz hS => ?_)
  exact zr_vret hk hr hH hz hS hw (Nat.le_of_ble_eq_true rfl) (Nat.le_of_ble_eq_true rfl) dX5_tellNow_19
theorem fk_X5_84 {ci : Nat} (h : ci ∈ [5]) : zFk "WhatIfSheetModel" 84 ci 23 := by
  simp only [List.mem_cons, List.not_mem_nil, or_false] at h
  rcases h with rfl
  · exact ⟨RX5, TX5, 76, rfl, by decide, q2697⟩
theorem fk_X5_247 {ci : Nat} (h : ci ∈ [5]) : zFk "WhatIfSheetModel" 247 ci 18 := by
  simp only [List.mem_cons, List.not_mem_nil, or_false] at h
  rcases h with rfl
  · exact ⟨RX5, TX5, 76, rfl, by decide, q2692⟩
theorem fk_X5_72 {ci : Nat} (h : ci ∈ [5]) : zFk "WhatIfSheetModel" 72 ci 19 := by
  simp only [List.mem_cons, List.not_mem_nil, or_false] at h
  rcases h with rfl
  · exact ⟨RX5, TX5, 76, rfl, by decide, q2693⟩
def wp_X5_afresh (l : Launch) (g : zG) (d : Nat) (h0 : Nat) (hp : zHp) (nx : Nat) (Post : zHp → Nat → Prop) : Prop :=
  (∃ I_2 : Nat → Int32 → zHp → Prop, (∃ n_44, I_2 n_44 (0 : Int32) hp) ∧ ∀ (n_3 : Nat) (x_1 : Int32) (hp_2 : zHp), I_2 n_3 x_1 hp_2 →
  (((24 : Int32) ≤ x_1 →
  (∃ I_28 : Nat → Int32 → zHp → Prop, (∃ n_25, I_28 n_25 (0 : Int32) hp_2) ∧ ∀ (n_6 : Nat) (x_4 : Int32) (hp_5 : zHp), I_28 n_6 x_4 hp_5 →
  (((6 : Int32) ≤ x_4 →
  (Post hp_5 nx)) ∧
  (¬ (6 : Int32) ≤ x_4 →
  (zgR hp_5 (some h0) [5] 23 fun r_10 =>
  (zgI hp_5 (some h0) [5] 18 fun x_14 =>
  (zaR (g.2.1 16) hp_5 r_10 fun a_15 n_16 f_17 => vp_in x_14 n_16 ∧ ∀ r_18 : Option Nat, r_18 = f_17 x_14.toNatClampNeg →
  (zaI (g.2.1 3) hp_5 r_18 fun a_19 n_20 f_21 => vp_in x_4 n_20 ∧ zB g ≤ a_19 ∧ ∀ hp_22 : zHp, hp_22 = va_up hp_5 a_19 (some (.inl (g.2.1 3, n_20, .inl (va_up f_21 x_4.toNatClampNeg (vp_nar .boolean (0 : Int32)))))) →
  (∀ x_23 : Int32, x_23 = x_4 + (1 : Int32) →
  (∃ k_24, k_24 < n_6 ∧ I_28 k_24 x_23 hp_22)))))))))) ∧
  (¬ (24 : Int32) ≤ x_1 →
  (zgR hp_2 (some h0) [5] 19 fun r_29 =>
  (zgI hp_2 (some h0) [5] 18 fun x_33 =>
  (zaR (g.2.1 16) hp_2 r_29 fun a_34 n_35 f_36 => vp_in x_33 n_35 ∧ ∀ r_37 : Option Nat, r_37 = f_36 x_33.toNatClampNeg →
  (zaI (g.2.1 3) hp_2 r_37 fun a_38 n_39 f_40 => vp_in x_1 n_39 ∧ zB g ≤ a_38 ∧ ∀ hp_41 : zHp, hp_41 = va_up hp_2 a_38 (some (.inl (g.2.1 3, n_39, .inl (va_up f_40 x_1.toNatClampNeg (vp_nar .boolean (0 : Int32)))))) →
  (∀ x_42 : Int32, x_42 = x_1 + (1 : Int32) →
  (∃ k_43, k_43 < n_3 ∧ I_2 k_43 x_42 hp_41)))))))))
set_option maxHeartbeats 40000000 in
theorem met_X5_afresh {l : Launch} {g : zG} {d : Nat} {h0 : Nat} {hp : zHp} {nx : Nat} {Post : zHp → Nat → Prop} (hw : wp_X5_afresh l g d h0 hp nx Post) : zMt l g yX5_afresh cX5_afresh 2 none (d + 1) 0 0 [.ref h0] hp nx (zQv g Post) := by
  refine z_start (by decide) (Nat.le_of_ble_eq_true rfl) ?_
  intro p e s m below meth c hk hr hin hH hz ls hl
  have hx := hk.1.1
  have hb := hk.1.2.1
  have hown := hk.1.2.2.2.1
  have hts := hk.1.2.2.2.2
  have hS : va_S (zAd g) s.heap s.heap [] := va_S.rf
  have hl : lv_has ls 2 [(0, va_rf (some h0))] := hl
  unfold wp_X5_afresh at hw
  refine lv_iconst (v := (0 : Int32)) hx hb dX5_afresh_0 (by decide) ?_
  refine lv_istore_n (i := 1) (lv' := [(1, .int (0 : Int32)), (0, va_rf (some h0))]) hx hb dX5_afresh_1 rfl hl (by decide) (by first | rfl | simp [List.filter_cons, z_cat, z_catI, z_catJ, z_catF, z_catD]) (fun ls hl => ?_)
  obtain ⟨I_2, ⟨n_44, hI⟩, hB_2⟩ := hw
  have hL_2 : ∀ (n_3 : Nat) (x_1 : Int32) (hp_2 : zHp) (H : Heap) (locs : List Loc) (ls : Array Slot), I_2 n_3 x_1 hp_2 → lv_has ls 2 [(0, va_rf (some h0)), (1, .int x_1)] → zHd g hp_2 H → H.size = nx → va_S (zAd g) s.heap H locs → W p l e (zrm (d + 1) 0 0) s m ([.ref h0] : List Value).toArray below meth c H locs 0 0 (MQ below (zQv g Post) ([.ref h0] : List Value).toArray s 0 0 (zAd g)) (F0 m 2 ls []) := by
    intro n_3
    induction n_3 using Nat.strongRecOn with
    | _ n_3 ih_2 =>
      intro x_1 hp_2 H locs ls hw hl hH hz hS
      have hw := hB_2 n_3 x_1 hp_2 hw
      refine lv_iload_n hx hb dX5_afresh_2 rfl (lv_at hl 1 rfl) ?_
      refine lv_bipush (v := (24 : Int32)) hx hb dX5_afresh_3 (by decide) ?_
      refine lv_icmp_ge (tgt := 26) hx hb dX5_afresh_5 (by decide) (fun hc => ?_) (fun hc => ?_)
      · have hw := hw.1 hc
        refine lv_iconst (v := (0 : Int32)) hx hb dX5_afresh_26 (by decide) ?_
        refine lv_istore_n (i := 1) (lv' := [(1, .int (0 : Int32)), (0, va_rf (some h0))]) hx hb dX5_afresh_27 rfl hl (by decide) (by first | rfl | simp [List.filter_cons, z_cat, z_catI, z_catJ, z_catF, z_catD]) (fun ls hl => ?_)
        obtain ⟨I_28, ⟨n_25, hI⟩, hB_28⟩ := hw
        have hL_28 : ∀ (n_6 : Nat) (x_4 : Int32) (hp_5 : zHp) (H : Heap) (locs : List Loc) (ls : Array Slot), I_28 n_6 x_4 hp_5 → lv_has ls 2 [(0, va_rf (some h0)), (1, .int x_4)] → zHd g hp_5 H → H.size = nx → va_S (zAd g) s.heap H locs → W p l e (zrm (d + 1) 0 0) s m ([.ref h0] : List Value).toArray below meth c H locs 0 0 (MQ below (zQv g Post) ([.ref h0] : List Value).toArray s 0 0 (zAd g)) (F0 m 28 ls []) := by
          intro n_6
          induction n_6 using Nat.strongRecOn with
          | _ n_6 ih_28 =>
            intro x_4 hp_5 H locs ls hw hl hH hz hS
            have hw := hB_28 n_6 x_4 hp_5 hw
            refine lv_iload_n hx hb dX5_afresh_28 rfl (lv_at hl 1 rfl) ?_
            refine lv_bipush (v := (6 : Int32)) hx hb dX5_afresh_29 (by decide) ?_
            refine lv_icmp_ge (tgt := 52) hx hb dX5_afresh_31 (by decide) (fun hc => ?_) (fun hc => ?_)
            · have hw := hw.1 hc
              exact zr_vret hk hr hH hz hS hw (Nat.le_of_ble_eq_true rfl) (Nat.le_of_ble_eq_true rfl) dX5_afresh_52
            · have hw := hw.2 hc
              refine zr_aload_n (r := some h0) hx hb dX5_afresh_34 rfl (lv_at hl 0 rfl) ?_
              obtain ⟨a_7, ci_8, fs_9, r_10, er, he, hc, hv, hw⟩ := zgR_e hw
              refine zw_get hk hH er he hv (fk_X5_84 hc) dX5_afresh_35 ?_
              refine zr_aload_n (r := some h0) hx hb dX5_afresh_38 rfl (lv_at hl 0 rfl) ?_
              obtain ⟨a_11, ci_12, fs_13, x_14, er, he, hc, hv, hw⟩ := zgI_e hw
              refine zw_get hk hH er he hv (fk_X5_247 hc) dX5_afresh_39 ?_
              obtain ⟨a_15, n_16, f_17, er, he, hi, hw⟩ := zaR_e hw
              have hw := hw _ rfl
              refine zw_aald hk hH 16 er he rfl rfl hi dX5_afresh_42 ?_
              generalize f_17 x_14.toNatClampNeg = r_18 at hw ⊢
              refine lv_iload_n hx hb dX5_afresh_43 rfl (lv_at hl 1 rfl) ?_
              refine lv_iconst (v := (0 : Int32)) hx hb dX5_afresh_44 (by decide) ?_
              obtain ⟨a_19, n_20, f_21, er, he, hi, hA, hw⟩ := zaI_e hw
              obtain ⟨hp_22, eh⟩ : ∃ y : zHp, y = va_up hp_5 a_19 (some (.inl (g.2.1 3, n_20, .inl (va_up f_21 x_4.toNatClampNeg (vp_nar .boolean (0 : Int32)))))) := ⟨_, rfl⟩
              have hw := hw hp_22 eh
              refine zw_zast hk hH hz hS er he hi hA eh dX5_afresh_45 (fun H locs hH hz hS => ?_)
              obtain ⟨x_23, ex_23⟩ : ∃ y : Int32, y = x_4 + (1 : Int32) := ⟨_, rfl⟩
              have hw := hw x_23 ex_23
              refine lv_iinc (v := x_23) (lv' := [(1, .int x_23), (0, va_rf (some h0))]) hx hb dX5_afresh_46 hl (k := 1) rfl (by rw [ex_23]; rfl) (by decide) (by first | rfl | simp [List.filter_cons, z_cat, z_catI, z_catJ, z_catF, z_catD]) (fun ls hl => ?_)
              refine lv_goto (tgt := 28) hx hb dX5_afresh_49 (by decide) ?_
              obtain ⟨k_24, hlt, hw⟩ := hw
              exact ih_28 k_24 hlt x_23 hp_22 _ _ _ hw (lv_sub hl [1, 0] rfl) hH hz hS
        exact hL_28 n_25 (0 : Int32) hp_2 _ _ _ hI (lv_sub hl [1, 0] rfl) hH hz hS
      · have hw := hw.2 hc
        refine zr_aload_n (r := some h0) hx hb dX5_afresh_8 rfl (lv_at hl 0 rfl) ?_
        obtain ⟨a_26, ci_27, fs_28, r_29, er, he, hc, hv, hw⟩ := zgR_e hw
        refine zw_get hk hH er he hv (fk_X5_72 hc) dX5_afresh_9 ?_
        refine zr_aload_n (r := some h0) hx hb dX5_afresh_12 rfl (lv_at hl 0 rfl) ?_
        obtain ⟨a_30, ci_31, fs_32, x_33, er, he, hc, hv, hw⟩ := zgI_e hw
        refine zw_get hk hH er he hv (fk_X5_247 hc) dX5_afresh_13 ?_
        obtain ⟨a_34, n_35, f_36, er, he, hi, hw⟩ := zaR_e hw
        have hw := hw _ rfl
        refine zw_aald hk hH 16 er he rfl rfl hi dX5_afresh_16 ?_
        generalize f_36 x_33.toNatClampNeg = r_37 at hw ⊢
        refine lv_iload_n hx hb dX5_afresh_17 rfl (lv_at hl 1 rfl) ?_
        refine lv_iconst (v := (0 : Int32)) hx hb dX5_afresh_18 (by decide) ?_
        obtain ⟨a_38, n_39, f_40, er, he, hi, hA, hw⟩ := zaI_e hw
        obtain ⟨hp_41, eh⟩ : ∃ y : zHp, y = va_up hp_2 a_38 (some (.inl (g.2.1 3, n_39, .inl (va_up f_40 x_1.toNatClampNeg (vp_nar .boolean (0 : Int32)))))) := ⟨_, rfl⟩
        have hw := hw hp_41 eh
        refine zw_zast hk hH hz hS er he hi hA eh dX5_afresh_19 (fun H locs hH hz hS => ?_)
        obtain ⟨x_42, ex_42⟩ : ∃ y : Int32, y = x_1 + (1 : Int32) := ⟨_, rfl⟩
        have hw := hw x_42 ex_42
        refine lv_iinc (v := x_42) (lv' := [(1, .int x_42), (0, va_rf (some h0))]) hx hb dX5_afresh_20 hl (k := 1) rfl (by rw [ex_42]; rfl) (by decide) (by first | rfl | simp [List.filter_cons, z_cat, z_catI, z_catJ, z_catF, z_catD]) (fun ls hl => ?_)
        refine lv_goto (tgt := 2) hx hb dX5_afresh_23 (by decide) ?_
        obtain ⟨k_43, hlt, hw⟩ := hw
        exact ih_2 k_43 hlt x_42 hp_41 _ _ _ hw (lv_sub hl [1, 0] rfl) hH hz hS
  exact hL_2 n_44 (0 : Int32) hp _ _ _ hI (lv_sub hl [1, 0] rfl) hH hz hS
theorem fk_X5_243 {ci : Nat} (h : ci ∈ [5]) : zFk "WhatIfSheetModel" 243 ci 26 := by
  simp only [List.mem_cons, List.not_mem_nil, or_false] at h
  rcases h with rfl
  · exact ⟨RX5, TX5, 76, rfl, by decide, q2700⟩
theorem fk_X5_75 {ci : Nat} (h : ci ∈ [5]) : zFk "WhatIfSheetModel" 75 ci 20 := by
  simp only [List.mem_cons, List.not_mem_nil, or_false] at h
  rcases h with rfl
  · exact ⟨RX5, TX5, 76, rfl, by decide, q2694⟩
theorem fk_X5_96 {ci : Nat} (h : ci ∈ [5]) : zFk "WhatIfSheetModel" 96 ci 28 := by
  simp only [List.mem_cons, List.not_mem_nil, or_false] at h
  rcases h with rfl
  · exact ⟨RX5, TX5, 76, rfl, by decide, q2702⟩
theorem fk_X5_99 {ci : Nat} (h : ci ∈ [5]) : zFk "WhatIfSheetModel" 99 ci 29 := by
  simp only [List.mem_cons, List.not_mem_nil, or_false] at h
  rcases h with rfl
  · exact ⟨RX5, TX5, 76, rfl, by decide, q2703⟩
theorem fk_X5_93 {ci : Nat} (h : ci ∈ [5]) : zFk "WhatIfSheetModel" 93 ci 27 := by
  simp only [List.mem_cons, List.not_mem_nil, or_false] at h
  rcases h with rfl
  · exact ⟨RX5, TX5, 76, rfl, by decide, q2701⟩
def wp_X5_tell (l : Launch) (g : zG) (d : Nat) (h0 : Nat) (x1 : Int32) (hp : zHp) (nx : Nat) (Post : zHp → Nat → Prop) : Prop :=
  (zgR hp (some h0) [5] 19 fun r_4 =>
  (zgI hp (some h0) [5] 18 fun x_8 =>
  (zaR (g.2.1 16) hp r_4 fun a_9 n_10 f_11 => vp_in x_8 n_10 ∧ ∀ r_12 : Option Nat, r_12 = f_11 x_8.toNatClampNeg →
  (zaI (g.2.1 3) hp r_12 fun a_13 n_14 f_15 => vp_in x1 n_14 ∧ ∀ x_16 : Int32, x_16 = f_15 x1.toNatClampNeg →
  ((x_16 = 0 →
  (zo hp (some h0) [5] fun a_297 ci_298 fs_299 => zMt l g yX5_isInput cX5_isInput 2 (some .boolean) d 0 0 (.ref a_297 :: [.int x1]) hp nx (zQi g fun x_19 hp_17 nx_18 =>
  (∃ P_241 : zHp → Nat → Prop, (∀ (hp_20 : zHp) (nx_21 : Nat), P_241 hp_20 nx_21 →
  (zgR hp_20 (some h0) [5] 19 fun r_25 =>
  (zgI hp_20 (some h0) [5] 18 fun x_29 =>
  (zaR (g.2.1 16) hp_20 r_25 fun a_30 n_31 f_32 => vp_in x_29 n_31 ∧ ∀ r_33 : Option Nat, r_33 = f_32 x_29.toNatClampNeg →
  (zaI (g.2.1 3) hp_20 r_33 fun a_34 n_35 f_36 => vp_in x1 n_35 ∧ zB g ≤ a_34 ∧ ∀ hp_37 : zHp, hp_37 = va_up hp_20 a_34 (some (.inl (g.2.1 3, n_35, .inl (va_up f_36 x1.toNatClampNeg (vp_nar .boolean (1 : Int32)))))) →
  (Post hp_37 nx_21)))))) ∧
  ((x_19 = 0 →
  (∃ I_117 : Nat → Int32 → zHp → Nat → Prop, (∃ n_190, I_117 n_190 (0 : Int32) hp_17 nx_18) ∧ ∀ (n_41 : Nat) (x_38 : Int32) (hp_39 : zHp) (nx_40 : Nat), I_117 n_41 x_38 hp_39 nx_40 →
  (zgR hp_39 (some h0) [5] 3 fun r_45 =>
  (zaI (g.2.1 0) hp_39 r_45 fun a_46 n_47 f_48 => vp_in x1 n_47 ∧ ∀ x_49 : Int32, x_49 = f_48 x1.toNatClampNeg →
  ((x_49 ≤ x_38 →
  (zgI hp_39 (some h0) [5] 26 fun x_53 =>
  (zpt g hp_39 (some h0) [5] 26 (.int (x_53 - (1 : Int32))) fun hp_57 =>
  (zgR hp_57 (some h0) [5] 20 fun r_61 =>
  (zgI hp_57 (some h0) [5] 18 fun x_65 =>
  (zaR (g.2.1 15) hp_57 r_61 fun a_66 n_67 f_68 => vp_in x_65 n_67 ∧ ∀ r_69 : Option Nat, r_69 = f_68 x_65.toNatClampNeg →
  (zgR hp_57 (some h0) [5] 28 fun r_73 =>
  (zgI hp_57 (some h0) [5] 26 fun x_77 =>
  (zaI (g.2.1 0) hp_57 r_73 fun a_78 n_79 f_80 => vp_in x_77 n_79 ∧ ∀ x_81 : Int32, x_81 = f_80 x_77.toNatClampNeg →
  (∃ P_200 : Int32 → (Option Nat) → Int32 → UInt64 → zHp → Nat → Prop, (∀ (x_82 : Int32) (r_83 : Option Nat) (x_84 : Int32) (x_85 : UInt64) (hp_86 : zHp) (nx_87 : Nat), P_200 x_82 r_83 x_84 x_85 hp_86 nx_87 →
  (zaD (g.2.1 1) hp_86 r_83 fun a_88 n_89 f_90 => vp_in x_84 n_89 ∧ zB g ≤ a_88 ∧ ∀ hp_91 : zHp, hp_91 = va_up hp_86 a_88 (some (.inl (g.2.1 1, n_89, .inr (.inr (.inr (.inl (va_up f_90 x_84.toNatClampNeg x_85))))))) →
  (zgR hp_91 (some h0) [5] 21 fun r_95 =>
  (zgI hp_91 (some h0) [5] 18 fun x_99 =>
  (zaR (g.2.1 14) hp_91 r_95 fun a_100 n_101 f_102 => vp_in x_99 n_101 ∧ ∀ r_103 : Option Nat, r_103 = f_102 x_99.toNatClampNeg →
  (zgR hp_91 (some h0) [5] 28 fun r_107 =>
  (zgI hp_91 (some h0) [5] 26 fun x_111 =>
  (zaI (g.2.1 0) hp_91 r_107 fun a_112 n_113 f_114 => vp_in x_111 n_113 ∧ ∀ x_115 : Int32, x_115 = f_114 x_111.toNatClampNeg →
  (zaI (g.2.1 0) hp_91 r_103 fun a_116 n_117 f_118 => vp_in x1 n_117 ∧ zB g ≤ a_116 ∧ ∀ hp_119 : zHp, hp_119 = va_up hp_91 a_116 (some (.inl (g.2.1 0, n_117, .inl (va_up f_118 x1.toNatClampNeg x_115)))) →
  (zgR hp_119 (some h0) [5] 22 fun r_123 =>
  (zgI hp_119 (some h0) [5] 18 fun x_127 =>
  (zaR (g.2.1 14) hp_119 r_123 fun a_128 n_129 f_130 => vp_in x_127 n_129 ∧ ∀ r_131 : Option Nat, r_131 = f_130 x_127.toNatClampNeg →
  (zgR hp_119 (some h0) [5] 29 fun r_135 =>
  (zgI hp_119 (some h0) [5] 26 fun x_139 =>
  (zaI (g.2.1 0) hp_119 r_135 fun a_140 n_141 f_142 => vp_in x_139 n_141 ∧ ∀ x_143 : Int32, x_143 = f_142 x_139.toNatClampNeg →
  (zaI (g.2.1 0) hp_119 r_131 fun a_144 n_145 f_146 => vp_in x1 n_145 ∧ zB g ≤ a_144 ∧ ∀ hp_147 : zHp, hp_147 = va_up hp_119 a_144 (some (.inl (g.2.1 0, n_145, .inl (va_up f_146 x1.toNatClampNeg x_143)))) →
  P_241 hp_147 nx_87)))))))))))))))) ∧
  ((x_81 = 0 →
  (zgR hp_57 (some h0) [5] 0 fun r_151 =>
  (zaI (g.2.1 0) hp_57 r_151 fun a_152 n_153 f_154 => vp_in x1 n_153 ∧ ∀ x_155 : Int32, x_155 = f_154 x1.toNatClampNeg →
  (zgR hp_57 (some h0) [5] 27 fun r_159 =>
  (zgI hp_57 (some h0) [5] 26 fun x_163 =>
  (zaD (g.2.1 1) hp_57 r_159 fun a_164 n_165 f_166 => vp_in x_163 n_165 ∧ ∀ x_167 : UInt64, x_167 = f_166 x_163.toNatClampNeg →
  (zMt l g yX5_kept cX5_kept 3 (some .double) d 0 0 [.int x_155, .double x_167] hp_57 nx_40 (zQd g fun x_170 hp_168 nx_169 =>
  P_200 x_38 r_69 x1 x_170 hp_168 nx_169)))))))) ∧
  (¬ x_81 = 0 →
  P_200 x_38 r_69 x1 FP.dconst0 hp_57 nx_40)))))))))))) ∧
  (¬ x_49 ≤ x_38 →
  (zgR hp_39 (some h0) [5] 4 fun r_174 =>
  (zaR (g.2.1 14) hp_39 r_174 fun a_175 n_176 f_177 => vp_in x1 n_176 ∧ ∀ r_178 : Option Nat, r_178 = f_177 x1.toNatClampNeg →
  (zaI (g.2.1 0) hp_39 r_178 fun a_179 n_180 f_181 => vp_in x_38 n_180 ∧ ∀ x_182 : Int32, x_182 = f_181 x_38.toNatClampNeg →
  (zo hp_39 (some h0) [5] fun a_187 ci_188 fs_189 => zMt l g yX5_act cX5_act 5 none d 0 0 (.ref a_187 :: [.int x1, .int x_182]) hp_39 nx_40 (zQv g fun hp_183 nx_184 =>
  (∀ x_185 : Int32, x_185 = x_38 + (1 : Int32) →
  (∃ k_186, k_186 < n_41 ∧ I_117 k_186 x_185 hp_183 nx_184))))))))))))) ∧
  (¬ x_19 = 0 →
  (zgR hp_17 (some h0) [5] 20 fun r_194 =>
  (zgI hp_17 (some h0) [5] 18 fun x_198 =>
  (zaR (g.2.1 15) hp_17 r_194 fun a_199 n_200 f_201 => vp_in x_198 n_200 ∧ ∀ r_202 : Option Nat, r_202 = f_201 x_198.toNatClampNeg →
  (zgR hp_17 (some h0) [5] 1 fun r_206 =>
  (zaI (g.2.1 3) hp_17 r_206 fun a_207 n_208 f_209 => vp_in x1 n_208 ∧ ∀ x_210 : Int32, x_210 = f_209 x1.toNatClampNeg →
  (∃ P_61 : (Option Nat) → Int32 → UInt64 → zHp → Nat → Prop, (∀ (r_211 : Option Nat) (x_212 : Int32) (x_213 : UInt64) (hp_214 : zHp) (nx_215 : Nat), P_61 r_211 x_212 x_213 hp_214 nx_215 →
  (zaD (g.2.1 1) hp_214 r_211 fun a_216 n_217 f_218 => vp_in x_212 n_217 ∧ zB g ≤ a_216 ∧ ∀ hp_219 : zHp, hp_219 = va_up hp_214 a_216 (some (.inl (g.2.1 1, n_217, .inr (.inr (.inr (.inl (va_up f_218 x_212.toNatClampNeg x_213))))))) →
  (zgR hp_219 (some h0) [5] 21 fun r_223 =>
  (zgI hp_219 (some h0) [5] 18 fun x_227 =>
  (zaR (g.2.1 14) hp_219 r_223 fun a_228 n_229 f_230 => vp_in x_227 n_229 ∧ ∀ r_231 : Option Nat, r_231 = f_230 x_227.toNatClampNeg →
  (zgR hp_219 (some h0) [5] 1 fun r_235 =>
  (zaI (g.2.1 3) hp_219 r_235 fun a_236 n_237 f_238 => vp_in x1 n_237 ∧ ∀ x_239 : Int32, x_239 = f_238 x1.toNatClampNeg →
  (∃ P_86 : (Option Nat) → Int32 → Int32 → zHp → Nat → Prop, (∀ (r_240 : Option Nat) (x_241 : Int32) (x_242 : Int32) (hp_243 : zHp) (nx_244 : Nat), P_86 r_240 x_241 x_242 hp_243 nx_244 →
  (zaI (g.2.1 0) hp_243 r_240 fun a_245 n_246 f_247 => vp_in x_241 n_246 ∧ zB g ≤ a_245 ∧ ∀ hp_248 : zHp, hp_248 = va_up hp_243 a_245 (some (.inl (g.2.1 0, n_246, .inl (va_up f_247 x_241.toNatClampNeg x_242)))) →
  (zgR hp_248 (some h0) [5] 22 fun r_252 =>
  (zgI hp_248 (some h0) [5] 18 fun x_256 =>
  (zaR (g.2.1 14) hp_248 r_252 fun a_257 n_258 f_259 => vp_in x_256 n_258 ∧ ∀ r_260 : Option Nat, r_260 = f_259 x_256.toNatClampNeg →
  (zgR hp_248 (some h0) [5] 1 fun r_264 =>
  (zaI (g.2.1 3) hp_248 r_264 fun a_265 n_266 f_267 => vp_in x1 n_266 ∧ ∀ x_268 : Int32, x_268 = f_267 x1.toNatClampNeg →
  (∃ P_111 : (Option Nat) → Int32 → Int32 → zHp → Nat → Prop, (∀ (r_269 : Option Nat) (x_270 : Int32) (x_271 : Int32) (hp_272 : zHp) (nx_273 : Nat), P_111 r_269 x_270 x_271 hp_272 nx_273 →
  (zaI (g.2.1 0) hp_272 r_269 fun a_274 n_275 f_276 => vp_in x_270 n_275 ∧ zB g ≤ a_274 ∧ ∀ hp_277 : zHp, hp_277 = va_up hp_272 a_274 (some (.inl (g.2.1 0, n_275, .inl (va_up f_276 x_270.toNatClampNeg x_271)))) →
  P_241 hp_277 nx_273)) ∧
  ((x_268 = 0 →
  P_111 r_260 x1 x1 hp_248 nx_244) ∧
  (¬ x_268 = 0 →
  P_111 r_260 x1 (-1 : Int32) hp_248 nx_244)))))))))) ∧
  ((x_239 = 0 →
  P_86 r_231 x1 (1 : Int32) hp_219 nx_215) ∧
  (¬ x_239 = 0 →
  P_86 r_231 x1 (0 : Int32) hp_219 nx_215)))))))))) ∧
  ((x_210 = 0 →
  P_61 r_202 x1 FP.dconst0 hp_17 nx_18) ∧
  (¬ x_210 = 0 →
  (zgR hp_17 (some h0) [5] 0 fun r_281 =>
  (zaI (g.2.1 0) hp_17 r_281 fun a_282 n_283 f_284 => vp_in x1 n_283 ∧ ∀ x_285 : Int32, x_285 = f_284 x1.toNatClampNeg →
  (zgR hp_17 (some h0) [5] 2 fun r_289 =>
  (zaD (g.2.1 1) hp_17 r_289 fun a_290 n_291 f_292 => vp_in x1 n_291 ∧ ∀ x_293 : UInt64, x_293 = f_292 x1.toNatClampNeg →
  (zMt l g yX5_kept cX5_kept 3 (some .double) d 0 0 [.int x_285, .double x_293] hp_17 nx_18 (zQd g fun x_296 hp_294 nx_295 =>
  P_61 r_202 x1 x_296 hp_294 nx_295)))))))))))))))))))) ∧
  (¬ x_16 = 0 →
  (Post hp nx)))))))
set_option maxHeartbeats 40000000 in
theorem met_X5_tell {l : Launch} {g : zG} {d : Nat} {h0 : Nat} {x1 : Int32} {hp : zHp} {nx : Nat} {Post : zHp → Nat → Prop} (hw : wp_X5_tell l g d h0 x1 hp nx Post) : zMt l g yX5_tell cX5_tell 3 none (d + 1) 0 0 [.ref h0, .int x1] hp nx (zQv g Post) := by
  refine z_start (by decide) (Nat.le_of_ble_eq_true rfl) ?_
  intro p e s m below meth c hk hr hin hH hz ls hl
  have hx := hk.1.1
  have hb := hk.1.2.1
  have hown := hk.1.2.2.2.1
  have hts := hk.1.2.2.2.2
  have hS : va_S (zAd g) s.heap s.heap [] := va_S.rf
  have hl : lv_has ls 3 [(0, va_rf (some h0)), (1, .int x1)] := hl
  unfold wp_X5_tell at hw
  refine zr_aload_n (r := some h0) hx hb dX5_tell_0 rfl (lv_at hl 0 rfl) ?_
  obtain ⟨a_1, ci_2, fs_3, r_4, er, he, hc, hv, hw⟩ := zgR_e hw
  refine zw_get hk hH er he hv (fk_X5_72 hc) dX5_tell_1 ?_
  refine zr_aload_n (r := some h0) hx hb dX5_tell_4 rfl (lv_at hl 0 rfl) ?_
  obtain ⟨a_5, ci_6, fs_7, x_8, er, he, hc, hv, hw⟩ := zgI_e hw
  refine zw_get hk hH er he hv (fk_X5_247 hc) dX5_tell_5 ?_
  obtain ⟨a_9, n_10, f_11, er, he, hi, hw⟩ := zaR_e hw
  have hw := hw _ rfl
  refine zw_aald hk hH 16 er he rfl rfl hi dX5_tell_8 ?_
  generalize f_11 x_8.toNatClampNeg = r_12 at hw ⊢
  refine lv_iload_n hx hb dX5_tell_9 rfl (lv_at hl 1 rfl) ?_
  obtain ⟨a_13, n_14, f_15, er, he, hi, hw⟩ := zaI_e hw
  have hw := hw _ rfl
  refine zw_zald hk hH er he hi dX5_tell_10 ?_
  generalize f_15 x1.toNatClampNeg = x_16 at hw ⊢
  refine lv_if_eq (tgt := 15) hx hb dX5_tell_11 (by decide) (fun hc => ?_) (fun hc => ?_)
  · have hw := hw.1 hc
    refine zr_aload_n (r := some h0) hx hb dX5_tell_15 rfl (lv_at hl 0 rfl) ?_
    refine lv_iload_n hx hb dX5_tell_16 rfl (lv_at hl 1 rfl) ?_
    obtain ⟨a_297, ci_298, fs_299, er, he, hc, hw⟩ := zo_e hw
    obtain rfl := List.mem_singleton.mp hc
    refine zr_calli (zw_runV (As := [.int x1]) hk hH hz hS hl.1 er hw (cwV 1 hts (lw_V q2919 q2921 qs69 q162 q2922) rfl rfl rfl (by decide +kernel) (z_room (Nat.le_of_ble_eq_true rfl))) he rfl rfl rfl (Nat.le_of_ble_eq_true rfl) dX5_tell_17 ⟨Nat.le_of_ble_eq_true rfl, Nat.le_of_ble_eq_true rfl⟩) hS (fun x_19 hp_17 nx_18 hw H locs hH hz hS => ?_)
    obtain ⟨P_241, hP_241, hw⟩ := hw
    have hJ_241 : ∀ (hp_20 : zHp) (nx_21 : Nat) (H : Heap) (locs : List Loc) (ls : Array Slot), P_241 hp_20 nx_21 → lv_has ls 3 [(0, va_rf (some h0)), (1, .int x1)] → zHd g hp_20 H → H.size = nx_21 → va_S (zAd g) s.heap H locs → W p l e (zrm (d + 1) 0 0) s m ([.ref h0, .int x1] : List Value).toArray below meth c H locs 0 0 (MQ below (zQv g Post) ([.ref h0, .int x1] : List Value).toArray s 0 0 (zAd g)) (F0 m 241 ls []) := by
      intro hp_20 nx_21 H locs ls hw hl hH hz hS
      have hw := hP_241 hp_20 nx_21 hw
      refine zr_aload_n (r := some h0) hx hb dX5_tell_241 rfl (lv_at hl 0 rfl) ?_
      obtain ⟨a_22, ci_23, fs_24, r_25, er, he, hc, hv, hw⟩ := zgR_e hw
      refine zw_get hk hH er he hv (fk_X5_72 hc) dX5_tell_242 ?_
      refine zr_aload_n (r := some h0) hx hb dX5_tell_245 rfl (lv_at hl 0 rfl) ?_
      obtain ⟨a_26, ci_27, fs_28, x_29, er, he, hc, hv, hw⟩ := zgI_e hw
      refine zw_get hk hH er he hv (fk_X5_247 hc) dX5_tell_246 ?_
      obtain ⟨a_30, n_31, f_32, er, he, hi, hw⟩ := zaR_e hw
      have hw := hw _ rfl
      refine zw_aald hk hH 16 er he rfl rfl hi dX5_tell_249 ?_
      generalize f_32 x_29.toNatClampNeg = r_33 at hw ⊢
      refine lv_iload_n hx hb dX5_tell_250 rfl (lv_at hl 1 rfl) ?_
      refine lv_iconst (v := (1 : Int32)) hx hb dX5_tell_251 (by decide) ?_
      obtain ⟨a_34, n_35, f_36, er, he, hi, hA, hw⟩ := zaI_e hw
      obtain ⟨hp_37, eh⟩ : ∃ y : zHp, y = va_up hp_20 a_34 (some (.inl (g.2.1 3, n_35, .inl (va_up f_36 x1.toNatClampNeg (vp_nar .boolean (1 : Int32)))))) := ⟨_, rfl⟩
      have hw := hw hp_37 eh
      refine zw_zast hk hH hz hS er he hi hA eh dX5_tell_252 (fun H locs hH hz hS => ?_)
      exact zr_vret hk hr hH hz hS hw (Nat.le_of_ble_eq_true rfl) (Nat.le_of_ble_eq_true rfl) dX5_tell_253
    refine lv_if_eq (tgt := 115) hx hb dX5_tell_20 (by decide) (fun hc => ?_) (fun hc => ?_)
    · have hw := hw.1 hc
      refine lv_iconst (v := (0 : Int32)) hx hb dX5_tell_115 (by decide) ?_
      refine lv_istore_n (i := 2) (lv' := [(2, .int (0 : Int32)), (0, va_rf (some h0)), (1, .int x1)]) hx hb dX5_tell_116 rfl hl (by decide) (by first | rfl | simp [List.filter_cons, z_cat, z_catI, z_catJ, z_catF, z_catD]) (fun ls hl => ?_)
      obtain ⟨I_117, ⟨n_190, hI⟩, hB_117⟩ := hw
      have hL_117 : ∀ (n_41 : Nat) (x_38 : Int32) (hp_39 : zHp) (nx_40 : Nat) (H : Heap) (locs : List Loc) (ls : Array Slot), I_117 n_41 x_38 hp_39 nx_40 → lv_has ls 3 [(0, va_rf (some h0)), (1, .int x1), (2, .int x_38)] → zHd g hp_39 H → H.size = nx_40 → va_S (zAd g) s.heap H locs → W p l e (zrm (d + 1) 0 0) s m ([.ref h0, .int x1] : List Value).toArray below meth c H locs 0 0 (MQ below (zQv g Post) ([.ref h0, .int x1] : List Value).toArray s 0 0 (zAd g)) (F0 m 117 ls []) := by
        intro n_41
        induction n_41 using Nat.strongRecOn with
        | _ n_41 ih_117 =>
          intro x_38 hp_39 nx_40 H locs ls hw hl hH hz hS
          have hw := hB_117 n_41 x_38 hp_39 nx_40 hw
          refine lv_iload_n hx hb dX5_tell_117 rfl (lv_at hl 2 rfl) ?_
          refine zr_aload_n (r := some h0) hx hb dX5_tell_118 rfl (lv_at hl 0 rfl) ?_
          obtain ⟨a_42, ci_43, fs_44, r_45, er, he, hc, hv, hw⟩ := zgR_e hw
          refine zw_get hk hH er he hv (fk_X5_21 hc) dX5_tell_119 ?_
          refine lv_iload_n hx hb dX5_tell_122 rfl (lv_at hl 1 rfl) ?_
          obtain ⟨a_46, n_47, f_48, er, he, hi, hw⟩ := zaI_e hw
          have hw := hw _ rfl
          refine zw_iald hk hH er he hi dX5_tell_123 ?_
          generalize f_48 x1.toNatClampNeg = x_49 at hw ⊢
          refine lv_icmp_ge (tgt := 146) hx hb dX5_tell_124 (by decide) (fun hc => ?_) (fun hc => ?_)
          · have hw := hw.1 hc
            refine zr_aload_n (r := some h0) hx hb dX5_tell_146 rfl (lv_at hl 0 rfl) ?_
            refine lv_dup hx hb dX5_tell_147 (z_cat _) ?_
            obtain ⟨a_50, ci_51, fs_52, x_53, er, he, hc, hv, hw⟩ := zgI_e hw
            refine zw_get hk hH er he hv (fk_X5_243 hc) dX5_tell_148 ?_
            refine lv_iconst (v := (1 : Int32)) hx hb dX5_tell_151 (by decide) ?_
            refine lv_isub hx hb dX5_tell_152 ?_
            obtain ⟨a_54, ci_55, fs_56, hp_57, er, he, hc, hA, hkl, eh, hw⟩ := zpt_e hw
            refine zw_put hk hH hz hS er he hA hkl eh (fp_X5_243 hc) rfl rfl dX5_tell_153 (fun H locs hH hz hS => ?_)
            refine zr_aload_n (r := some h0) hx hb dX5_tell_156 rfl (lv_at hl 0 rfl) ?_
            obtain ⟨a_58, ci_59, fs_60, r_61, er, he, hc, hv, hw⟩ := zgR_e hw
            refine zw_get hk hH er he hv (fk_X5_75 hc) dX5_tell_157 ?_
            refine zr_aload_n (r := some h0) hx hb dX5_tell_160 rfl (lv_at hl 0 rfl) ?_
            obtain ⟨a_62, ci_63, fs_64, x_65, er, he, hc, hv, hw⟩ := zgI_e hw
            refine zw_get hk hH er he hv (fk_X5_247 hc) dX5_tell_161 ?_
            obtain ⟨a_66, n_67, f_68, er, he, hi, hw⟩ := zaR_e hw
            have hw := hw _ rfl
            refine zw_aald hk hH 15 er he rfl rfl hi dX5_tell_164 ?_
            generalize f_68 x_65.toNatClampNeg = r_69 at hw ⊢
            refine lv_iload_n hx hb dX5_tell_165 rfl (lv_at hl 1 rfl) ?_
            refine zr_aload_n (r := some h0) hx hb dX5_tell_166 rfl (lv_at hl 0 rfl) ?_
            obtain ⟨a_70, ci_71, fs_72, r_73, er, he, hc, hv, hw⟩ := zgR_e hw
            refine zw_get hk hH er he hv (fk_X5_96 hc) dX5_tell_167 ?_
            refine zr_aload_n (r := some h0) hx hb dX5_tell_170 rfl (lv_at hl 0 rfl) ?_
            obtain ⟨a_74, ci_75, fs_76, x_77, er, he, hc, hv, hw⟩ := zgI_e hw
            refine zw_get hk hH er he hv (fk_X5_243 hc) dX5_tell_171 ?_
            obtain ⟨a_78, n_79, f_80, er, he, hi, hw⟩ := zaI_e hw
            have hw := hw _ rfl
            refine zw_iald hk hH er he hi dX5_tell_174 ?_
            generalize f_80 x_77.toNatClampNeg = x_81 at hw ⊢
            obtain ⟨P_200, hP_200, hw⟩ := hw
            have hJ_200 : ∀ (x_82 : Int32) (r_83 : Option Nat) (x_84 : Int32) (x_85 : UInt64) (hp_86 : zHp) (nx_87 : Nat) (H : Heap) (locs : List Loc) (ls : Array Slot), P_200 x_82 r_83 x_84 x_85 hp_86 nx_87 → lv_has ls 3 [(0, va_rf (some h0)), (1, .int x1), (2, .int x_82)] → zHd g hp_86 H → H.size = nx_87 → va_S (zAd g) s.heap H locs → W p l e (zrm (d + 1) 0 0) s m ([.ref h0, .int x1] : List Value).toArray below meth c H locs 0 0 (MQ below (zQv g Post) ([.ref h0, .int x1] : List Value).toArray s 0 0 (zAd g)) (F0 m 200 ls [.double x_85, .int x_84, va_rf r_83]) := by
              intro x_82 r_83 x_84 x_85 hp_86 nx_87 H locs ls hw hl hH hz hS
              have hw := hP_200 x_82 r_83 x_84 x_85 hp_86 nx_87 hw
              obtain ⟨a_88, n_89, f_90, er, he, hi, hA, hw⟩ := zaD_e hw
              obtain ⟨hp_91, eh⟩ : ∃ y : zHp, y = va_up hp_86 a_88 (some (.inl (g.2.1 1, n_89, .inr (.inr (.inr (.inl (va_up f_90 x_84.toNatClampNeg x_85))))))) := ⟨_, rfl⟩
              have hw := hw hp_91 eh
              refine zw_dast hk hH hz hS er he hi hA eh dX5_tell_200 (fun H locs hH hz hS => ?_)
              refine zr_aload_n (r := some h0) hx hb dX5_tell_201 rfl (lv_at hl 0 rfl) ?_
              obtain ⟨a_92, ci_93, fs_94, r_95, er, he, hc, hv, hw⟩ := zgR_e hw
              refine zw_get hk hH er he hv (fk_X5_78 hc) dX5_tell_202 ?_
              refine zr_aload_n (r := some h0) hx hb dX5_tell_205 rfl (lv_at hl 0 rfl) ?_
              obtain ⟨a_96, ci_97, fs_98, x_99, er, he, hc, hv, hw⟩ := zgI_e hw
              refine zw_get hk hH er he hv (fk_X5_247 hc) dX5_tell_206 ?_
              obtain ⟨a_100, n_101, f_102, er, he, hi, hw⟩ := zaR_e hw
              have hw := hw _ rfl
              refine zw_aald hk hH 14 er he rfl rfl hi dX5_tell_209 ?_
              generalize f_102 x_99.toNatClampNeg = r_103 at hw ⊢
              refine lv_iload_n hx hb dX5_tell_210 rfl (lv_at hl 1 rfl) ?_
              refine zr_aload_n (r := some h0) hx hb dX5_tell_211 rfl (lv_at hl 0 rfl) ?_
              obtain ⟨a_104, ci_105, fs_106, r_107, er, he, hc, hv, hw⟩ := zgR_e hw
              refine zw_get hk hH er he hv (fk_X5_96 hc) dX5_tell_212 ?_
              refine zr_aload_n (r := some h0) hx hb dX5_tell_215 rfl (lv_at hl 0 rfl) ?_
              obtain ⟨a_108, ci_109, fs_110, x_111, er, he, hc, hv, hw⟩ := zgI_e hw
              refine zw_get hk hH er he hv (fk_X5_243 hc) dX5_tell_216 ?_
              obtain ⟨a_112, n_113, f_114, er, he, hi, hw⟩ := zaI_e hw
              have hw := hw _ rfl
              refine zw_iald hk hH er he hi dX5_tell_219 ?_
              generalize f_114 x_111.toNatClampNeg = x_115 at hw ⊢
              obtain ⟨a_116, n_117, f_118, er, he, hi, hA, hw⟩ := zaI_e hw
              obtain ⟨hp_119, eh⟩ : ∃ y : zHp, y = va_up hp_91 a_116 (some (.inl (g.2.1 0, n_117, .inl (va_up f_118 x1.toNatClampNeg x_115)))) := ⟨_, rfl⟩
              have hw := hw hp_119 eh
              refine zw_iast hk hH hz hS er he hi hA eh dX5_tell_220 (fun H locs hH hz hS => ?_)
              refine zr_aload_n (r := some h0) hx hb dX5_tell_221 rfl (lv_at hl 0 rfl) ?_
              obtain ⟨a_120, ci_121, fs_122, r_123, er, he, hc, hv, hw⟩ := zgR_e hw
              refine zw_get hk hH er he hv (fk_X5_81 hc) dX5_tell_222 ?_
              refine zr_aload_n (r := some h0) hx hb dX5_tell_225 rfl (lv_at hl 0 rfl) ?_
              obtain ⟨a_124, ci_125, fs_126, x_127, er, he, hc, hv, hw⟩ := zgI_e hw
              refine zw_get hk hH er he hv (fk_X5_247 hc) dX5_tell_226 ?_
              obtain ⟨a_128, n_129, f_130, er, he, hi, hw⟩ := zaR_e hw
              have hw := hw _ rfl
              refine zw_aald hk hH 14 er he rfl rfl hi dX5_tell_229 ?_
              generalize f_130 x_127.toNatClampNeg = r_131 at hw ⊢
              refine lv_iload_n hx hb dX5_tell_230 rfl (lv_at hl 1 rfl) ?_
              refine zr_aload_n (r := some h0) hx hb dX5_tell_231 rfl (lv_at hl 0 rfl) ?_
              obtain ⟨a_132, ci_133, fs_134, r_135, er, he, hc, hv, hw⟩ := zgR_e hw
              refine zw_get hk hH er he hv (fk_X5_99 hc) dX5_tell_232 ?_
              refine zr_aload_n (r := some h0) hx hb dX5_tell_235 rfl (lv_at hl 0 rfl) ?_
              obtain ⟨a_136, ci_137, fs_138, x_139, er, he, hc, hv, hw⟩ := zgI_e hw
              refine zw_get hk hH er he hv (fk_X5_243 hc) dX5_tell_236 ?_
              obtain ⟨a_140, n_141, f_142, er, he, hi, hw⟩ := zaI_e hw
              have hw := hw _ rfl
              refine zw_iald hk hH er he hi dX5_tell_239 ?_
              generalize f_142 x_139.toNatClampNeg = x_143 at hw ⊢
              obtain ⟨a_144, n_145, f_146, er, he, hi, hA, hw⟩ := zaI_e hw
              obtain ⟨hp_147, eh⟩ : ∃ y : zHp, y = va_up hp_119 a_144 (some (.inl (g.2.1 0, n_145, .inl (va_up f_146 x1.toNatClampNeg x_143)))) := ⟨_, rfl⟩
              have hw := hw hp_147 eh
              refine zw_iast hk hH hz hS er he hi hA eh dX5_tell_240 (fun H locs hH hz hS => ?_)
              exact hJ_241 hp_147 nx_87 _ _ _ hw (lv_sub hl [0, 1] rfl) hH hz hS
            refine lv_if_ne (tgt := 199) hx hb dX5_tell_175 (by decide) (fun hc => ?_) (fun hc => ?_)
            · have hw := hw.2 hc
              refine lv_dconst0 hx hb dX5_tell_199 ?_
              exact hJ_200 x_38 r_69 x1 FP.dconst0 hp_57 nx_40 _ _ _ hw hl hH hz hS
            · have hw := hw.1 hc
              refine zr_aload_n (r := some h0) hx hb dX5_tell_178 rfl (lv_at hl 0 rfl) ?_
              obtain ⟨a_148, ci_149, fs_150, r_151, er, he, hc, hv, hw⟩ := zgR_e hw
              refine zw_get hk hH er he hv (fk_X5_9 hc) dX5_tell_179 ?_
              refine lv_iload_n hx hb dX5_tell_182 rfl (lv_at hl 1 rfl) ?_
              obtain ⟨a_152, n_153, f_154, er, he, hi, hw⟩ := zaI_e hw
              have hw := hw _ rfl
              refine zw_iald hk hH er he hi dX5_tell_183 ?_
              generalize f_154 x1.toNatClampNeg = x_155 at hw ⊢
              refine zr_aload_n (r := some h0) hx hb dX5_tell_184 rfl (lv_at hl 0 rfl) ?_
              obtain ⟨a_156, ci_157, fs_158, r_159, er, he, hc, hv, hw⟩ := zgR_e hw
              refine zw_get hk hH er he hv (fk_X5_93 hc) dX5_tell_185 ?_
              refine zr_aload_n (r := some h0) hx hb dX5_tell_188 rfl (lv_at hl 0 rfl) ?_
              obtain ⟨a_160, ci_161, fs_162, x_163, er, he, hc, hv, hw⟩ := zgI_e hw
              refine zw_get hk hH er he hv (fk_X5_243 hc) dX5_tell_189 ?_
              obtain ⟨a_164, n_165, f_166, er, he, hi, hw⟩ := zaD_e hw
              have hw := hw _ rfl
              refine zw_dald hk hH er he hi dX5_tell_192 ?_
              generalize f_166 x_163.toNatClampNeg = x_167 at hw ⊢
              refine zr_calld (zr_runS (As := [.int x_155, .double x_167]) hk hH hz hS hl.1 hw (va_cwS 2 hts (lw_S q2924 q2925 q162 q2926) rfl rfl rfl (by decide +kernel) (z_room (Nat.le_of_ble_eq_true rfl))) rfl rfl (by simp only [List.map_cons, List.map_nil, z_cat]; exact Nat.le_of_ble_eq_true rfl) dX5_tell_193 ⟨Nat.le_of_ble_eq_true rfl, Nat.le_of_ble_eq_true rfl⟩) hS (fun x_170 hp_168 nx_169 hw H locs hH hz hS => ?_)
              refine lv_goto (tgt := 200) hx hb dX5_tell_196 (by decide) ?_
              exact hJ_200 x_38 r_69 x1 x_170 hp_168 nx_169 _ _ _ hw hl hH hz hS
          · have hw := hw.2 hc
            refine zr_aload_n (r := some h0) hx hb dX5_tell_127 rfl (lv_at hl 0 rfl) ?_
            refine lv_iload_n hx hb dX5_tell_128 rfl (lv_at hl 1 rfl) ?_
            refine zr_aload_n (r := some h0) hx hb dX5_tell_129 rfl (lv_at hl 0 rfl) ?_
            obtain ⟨a_171, ci_172, fs_173, r_174, er, he, hc, hv, hw⟩ := zgR_e hw
            refine zw_get hk hH er he hv (fk_X5_26 hc) dX5_tell_130 ?_
            refine lv_iload_n hx hb dX5_tell_133 rfl (lv_at hl 1 rfl) ?_
            obtain ⟨a_175, n_176, f_177, er, he, hi, hw⟩ := zaR_e hw
            have hw := hw _ rfl
            refine zw_aald hk hH 14 er he rfl rfl hi dX5_tell_134 ?_
            generalize f_177 x1.toNatClampNeg = r_178 at hw ⊢
            refine lv_iload_n hx hb dX5_tell_135 rfl (lv_at hl 2 rfl) ?_
            obtain ⟨a_179, n_180, f_181, er, he, hi, hw⟩ := zaI_e hw
            have hw := hw _ rfl
            refine zw_iald hk hH er he hi dX5_tell_136 ?_
            generalize f_181 x_38.toNatClampNeg = x_182 at hw ⊢
            obtain ⟨a_187, ci_188, fs_189, er, he, hc, hw⟩ := zo_e hw
            obtain rfl := List.mem_singleton.mp hc
            refine zr_callv (zw_runV (As := [.int x1, .int x_182]) hk hH hz hS hl.1 er hw (cwV 2 hts (lw_V q3007 q3009 qs84 q162 q3010) rfl rfl rfl (by decide +kernel) (z_room (Nat.le_of_ble_eq_true rfl))) he rfl rfl rfl (Nat.le_of_ble_eq_true rfl) dX5_tell_137 ⟨Nat.le_of_ble_eq_true rfl, Nat.le_of_ble_eq_true rfl⟩) hS (fun hp_183 nx_184 hw H locs hH hz hS => ?_)
            obtain ⟨x_185, ex_185⟩ : ∃ y : Int32, y = x_38 + (1 : Int32) := ⟨_, rfl⟩
            have hw := hw x_185 ex_185
            refine lv_iinc (v := x_185) (lv' := [(2, .int x_185), (0, va_rf (some h0)), (1, .int x1)]) hx hb dX5_tell_140 hl (k := 2) rfl (by rw [ex_185]; rfl) (by decide) (by first | rfl | simp [List.filter_cons, z_cat, z_catI, z_catJ, z_catF, z_catD]) (fun ls hl => ?_)
            refine lv_goto (tgt := 117) hx hb dX5_tell_143 (by decide) ?_
            obtain ⟨k_186, hlt, hw⟩ := hw
            exact ih_117 k_186 hlt x_185 hp_183 nx_184 _ _ _ hw (lv_sub hl [1, 2, 0] rfl) hH hz hS
      exact hL_117 n_190 (0 : Int32) hp_17 nx_18 _ _ _ hI (lv_sub hl [1, 2, 0] rfl) hH hz hS
    · have hw := hw.2 hc
      refine zr_aload_n (r := some h0) hx hb dX5_tell_23 rfl (lv_at hl 0 rfl) ?_
      obtain ⟨a_191, ci_192, fs_193, r_194, er, he, hc, hv, hw⟩ := zgR_e hw
      refine zw_get hk hH er he hv (fk_X5_75 hc) dX5_tell_24 ?_
      refine zr_aload_n (r := some h0) hx hb dX5_tell_27 rfl (lv_at hl 0 rfl) ?_
      obtain ⟨a_195, ci_196, fs_197, x_198, er, he, hc, hv, hw⟩ := zgI_e hw
      refine zw_get hk hH er he hv (fk_X5_247 hc) dX5_tell_28 ?_
      obtain ⟨a_199, n_200, f_201, er, he, hi, hw⟩ := zaR_e hw
      have hw := hw _ rfl
      refine zw_aald hk hH 15 er he rfl rfl hi dX5_tell_31 ?_
      generalize f_201 x_198.toNatClampNeg = r_202 at hw ⊢
      refine lv_iload_n hx hb dX5_tell_32 rfl (lv_at hl 1 rfl) ?_
      refine zr_aload_n (r := some h0) hx hb dX5_tell_33 rfl (lv_at hl 0 rfl) ?_
      obtain ⟨a_203, ci_204, fs_205, r_206, er, he, hc, hv, hw⟩ := zgR_e hw
      refine zw_get hk hH er he hv (fk_X5_13 hc) dX5_tell_34 ?_
      refine lv_iload_n hx hb dX5_tell_37 rfl (lv_at hl 1 rfl) ?_
      obtain ⟨a_207, n_208, f_209, er, he, hi, hw⟩ := zaI_e hw
      have hw := hw _ rfl
      refine zw_zald hk hH er he hi dX5_tell_38 ?_
      generalize f_209 x1.toNatClampNeg = x_210 at hw ⊢
      obtain ⟨P_61, hP_61, hw⟩ := hw
      have hJ_61 : ∀ (r_211 : Option Nat) (x_212 : Int32) (x_213 : UInt64) (hp_214 : zHp) (nx_215 : Nat) (H : Heap) (locs : List Loc) (ls : Array Slot), P_61 r_211 x_212 x_213 hp_214 nx_215 → lv_has ls 3 [(0, va_rf (some h0)), (1, .int x1)] → zHd g hp_214 H → H.size = nx_215 → va_S (zAd g) s.heap H locs → W p l e (zrm (d + 1) 0 0) s m ([.ref h0, .int x1] : List Value).toArray below meth c H locs 0 0 (MQ below (zQv g Post) ([.ref h0, .int x1] : List Value).toArray s 0 0 (zAd g)) (F0 m 61 ls [.double x_213, .int x_212, va_rf r_211]) := by
        intro r_211 x_212 x_213 hp_214 nx_215 H locs ls hw hl hH hz hS
        have hw := hP_61 r_211 x_212 x_213 hp_214 nx_215 hw
        obtain ⟨a_216, n_217, f_218, er, he, hi, hA, hw⟩ := zaD_e hw
        obtain ⟨hp_219, eh⟩ : ∃ y : zHp, y = va_up hp_214 a_216 (some (.inl (g.2.1 1, n_217, .inr (.inr (.inr (.inl (va_up f_218 x_212.toNatClampNeg x_213))))))) := ⟨_, rfl⟩
        have hw := hw hp_219 eh
        refine zw_dast hk hH hz hS er he hi hA eh dX5_tell_61 (fun H locs hH hz hS => ?_)
        refine zr_aload_n (r := some h0) hx hb dX5_tell_62 rfl (lv_at hl 0 rfl) ?_
        obtain ⟨a_220, ci_221, fs_222, r_223, er, he, hc, hv, hw⟩ := zgR_e hw
        refine zw_get hk hH er he hv (fk_X5_78 hc) dX5_tell_63 ?_
        refine zr_aload_n (r := some h0) hx hb dX5_tell_66 rfl (lv_at hl 0 rfl) ?_
        obtain ⟨a_224, ci_225, fs_226, x_227, er, he, hc, hv, hw⟩ := zgI_e hw
        refine zw_get hk hH er he hv (fk_X5_247 hc) dX5_tell_67 ?_
        obtain ⟨a_228, n_229, f_230, er, he, hi, hw⟩ := zaR_e hw
        have hw := hw _ rfl
        refine zw_aald hk hH 14 er he rfl rfl hi dX5_tell_70 ?_
        generalize f_230 x_227.toNatClampNeg = r_231 at hw ⊢
        refine lv_iload_n hx hb dX5_tell_71 rfl (lv_at hl 1 rfl) ?_
        refine zr_aload_n (r := some h0) hx hb dX5_tell_72 rfl (lv_at hl 0 rfl) ?_
        obtain ⟨a_232, ci_233, fs_234, r_235, er, he, hc, hv, hw⟩ := zgR_e hw
        refine zw_get hk hH er he hv (fk_X5_13 hc) dX5_tell_73 ?_
        refine lv_iload_n hx hb dX5_tell_76 rfl (lv_at hl 1 rfl) ?_
        obtain ⟨a_236, n_237, f_238, er, he, hi, hw⟩ := zaI_e hw
        have hw := hw _ rfl
        refine zw_zald hk hH er he hi dX5_tell_77 ?_
        generalize f_238 x1.toNatClampNeg = x_239 at hw ⊢
        obtain ⟨P_86, hP_86, hw⟩ := hw
        have hJ_86 : ∀ (r_240 : Option Nat) (x_241 : Int32) (x_242 : Int32) (hp_243 : zHp) (nx_244 : Nat) (H : Heap) (locs : List Loc) (ls : Array Slot), P_86 r_240 x_241 x_242 hp_243 nx_244 → lv_has ls 3 [(0, va_rf (some h0)), (1, .int x1)] → zHd g hp_243 H → H.size = nx_244 → va_S (zAd g) s.heap H locs → W p l e (zrm (d + 1) 0 0) s m ([.ref h0, .int x1] : List Value).toArray below meth c H locs 0 0 (MQ below (zQv g Post) ([.ref h0, .int x1] : List Value).toArray s 0 0 (zAd g)) (F0 m 86 ls [.int x_242, .int x_241, va_rf r_240]) := by
          intro r_240 x_241 x_242 hp_243 nx_244 H locs ls hw hl hH hz hS
          have hw := hP_86 r_240 x_241 x_242 hp_243 nx_244 hw
          obtain ⟨a_245, n_246, f_247, er, he, hi, hA, hw⟩ := zaI_e hw
          obtain ⟨hp_248, eh⟩ : ∃ y : zHp, y = va_up hp_243 a_245 (some (.inl (g.2.1 0, n_246, .inl (va_up f_247 x_241.toNatClampNeg x_242)))) := ⟨_, rfl⟩
          have hw := hw hp_248 eh
          refine zw_iast hk hH hz hS er he hi hA eh dX5_tell_86 (fun H locs hH hz hS => ?_)
          refine zr_aload_n (r := some h0) hx hb dX5_tell_87 rfl (lv_at hl 0 rfl) ?_
          obtain ⟨a_249, ci_250, fs_251, r_252, er, he, hc, hv, hw⟩ := zgR_e hw
          refine zw_get hk hH er he hv (fk_X5_81 hc) dX5_tell_88 ?_
          refine zr_aload_n (r := some h0) hx hb dX5_tell_91 rfl (lv_at hl 0 rfl) ?_
          obtain ⟨a_253, ci_254, fs_255, x_256, er, he, hc, hv, hw⟩ := zgI_e hw
          refine zw_get hk hH er he hv (fk_X5_247 hc) dX5_tell_92 ?_
          obtain ⟨a_257, n_258, f_259, er, he, hi, hw⟩ := zaR_e hw
          have hw := hw _ rfl
          refine zw_aald hk hH 14 er he rfl rfl hi dX5_tell_95 ?_
          generalize f_259 x_256.toNatClampNeg = r_260 at hw ⊢
          refine lv_iload_n hx hb dX5_tell_96 rfl (lv_at hl 1 rfl) ?_
          refine zr_aload_n (r := some h0) hx hb dX5_tell_97 rfl (lv_at hl 0 rfl) ?_
          obtain ⟨a_261, ci_262, fs_263, r_264, er, he, hc, hv, hw⟩ := zgR_e hw
          refine zw_get hk hH er he hv (fk_X5_13 hc) dX5_tell_98 ?_
          refine lv_iload_n hx hb dX5_tell_101 rfl (lv_at hl 1 rfl) ?_
          obtain ⟨a_265, n_266, f_267, er, he, hi, hw⟩ := zaI_e hw
          have hw := hw _ rfl
          refine zw_zald hk hH er he hi dX5_tell_102 ?_
          generalize f_267 x1.toNatClampNeg = x_268 at hw ⊢
          obtain ⟨P_111, hP_111, hw⟩ := hw
          have hJ_111 : ∀ (r_269 : Option Nat) (x_270 : Int32) (x_271 : Int32) (hp_272 : zHp) (nx_273 : Nat) (H : Heap) (locs : List Loc) (ls : Array Slot), P_111 r_269 x_270 x_271 hp_272 nx_273 → lv_has ls 3 [(0, va_rf (some h0)), (1, .int x1)] → zHd g hp_272 H → H.size = nx_273 → va_S (zAd g) s.heap H locs → W p l e (zrm (d + 1) 0 0) s m ([.ref h0, .int x1] : List Value).toArray below meth c H locs 0 0 (MQ below (zQv g Post) ([.ref h0, .int x1] : List Value).toArray s 0 0 (zAd g)) (F0 m 111 ls [.int x_271, .int x_270, va_rf r_269]) := by
            intro r_269 x_270 x_271 hp_272 nx_273 H locs ls hw hl hH hz hS
            have hw := hP_111 r_269 x_270 x_271 hp_272 nx_273 hw
            obtain ⟨a_274, n_275, f_276, er, he, hi, hA, hw⟩ := zaI_e hw
            obtain ⟨hp_277, eh⟩ : ∃ y : zHp, y = va_up hp_272 a_274 (some (.inl (g.2.1 0, n_275, .inl (va_up f_276 x_270.toNatClampNeg x_271)))) := ⟨_, rfl⟩
            have hw := hw hp_277 eh
            refine zw_iast hk hH hz hS er he hi hA eh dX5_tell_111 (fun H locs hH hz hS => ?_)
            refine lv_goto (tgt := 241) hx hb dX5_tell_112 (by decide) ?_
            exact hJ_241 hp_277 nx_273 _ _ _ hw hl hH hz hS
          refine lv_if_eq (tgt := 110) hx hb dX5_tell_103 (by decide) (fun hc => ?_) (fun hc => ?_)
          · have hw := hw.1 hc
            refine lv_iload_n hx hb dX5_tell_110 rfl (lv_at hl 1 rfl) ?_
            exact hJ_111 r_260 x1 x1 hp_248 nx_244 _ _ _ hw hl hH hz hS
          · have hw := hw.2 hc
            refine lv_iconst (v := (-1 : Int32)) hx hb dX5_tell_106 (by decide) ?_
            refine lv_goto (tgt := 111) hx hb dX5_tell_107 (by decide) ?_
            exact hJ_111 r_260 x1 (-1 : Int32) hp_248 nx_244 _ _ _ hw hl hH hz hS
        refine lv_if_eq (tgt := 85) hx hb dX5_tell_78 (by decide) (fun hc => ?_) (fun hc => ?_)
        · have hw := hw.1 hc
          refine lv_iconst (v := (1 : Int32)) hx hb dX5_tell_85 (by decide) ?_
          exact hJ_86 r_231 x1 (1 : Int32) hp_219 nx_215 _ _ _ hw hl hH hz hS
        · have hw := hw.2 hc
          refine lv_iconst (v := (0 : Int32)) hx hb dX5_tell_81 (by decide) ?_
          refine lv_goto (tgt := 86) hx hb dX5_tell_82 (by decide) ?_
          exact hJ_86 r_231 x1 (0 : Int32) hp_219 nx_215 _ _ _ hw hl hH hz hS
      refine lv_if_eq (tgt := 60) hx hb dX5_tell_39 (by decide) (fun hc => ?_) (fun hc => ?_)
      · have hw := hw.1 hc
        refine lv_dconst0 hx hb dX5_tell_60 ?_
        exact hJ_61 r_202 x1 FP.dconst0 hp_17 nx_18 _ _ _ hw hl hH hz hS
      · have hw := hw.2 hc
        refine zr_aload_n (r := some h0) hx hb dX5_tell_42 rfl (lv_at hl 0 rfl) ?_
        obtain ⟨a_278, ci_279, fs_280, r_281, er, he, hc, hv, hw⟩ := zgR_e hw
        refine zw_get hk hH er he hv (fk_X5_9 hc) dX5_tell_43 ?_
        refine lv_iload_n hx hb dX5_tell_46 rfl (lv_at hl 1 rfl) ?_
        obtain ⟨a_282, n_283, f_284, er, he, hi, hw⟩ := zaI_e hw
        have hw := hw _ rfl
        refine zw_iald hk hH er he hi dX5_tell_47 ?_
        generalize f_284 x1.toNatClampNeg = x_285 at hw ⊢
        refine zr_aload_n (r := some h0) hx hb dX5_tell_48 rfl (lv_at hl 0 rfl) ?_
        obtain ⟨a_286, ci_287, fs_288, r_289, er, he, hc, hv, hw⟩ := zgR_e hw
        refine zw_get hk hH er he hv (fk_X5_17 hc) dX5_tell_49 ?_
        refine lv_iload_n hx hb dX5_tell_52 rfl (lv_at hl 1 rfl) ?_
        obtain ⟨a_290, n_291, f_292, er, he, hi, hw⟩ := zaD_e hw
        have hw := hw _ rfl
        refine zw_dald hk hH er he hi dX5_tell_53 ?_
        generalize f_292 x1.toNatClampNeg = x_293 at hw ⊢
        refine zr_calld (zr_runS (As := [.int x_285, .double x_293]) hk hH hz hS hl.1 hw (va_cwS 2 hts (lw_S q2924 q2925 q162 q2926) rfl rfl rfl (by decide +kernel) (z_room (Nat.le_of_ble_eq_true rfl))) rfl rfl (by simp only [List.map_cons, List.map_nil, z_cat]; exact Nat.le_of_ble_eq_true rfl) dX5_tell_54 ⟨Nat.le_of_ble_eq_true rfl, Nat.le_of_ble_eq_true rfl⟩) hS (fun x_296 hp_294 nx_295 hw H locs hH hz hS => ?_)
        refine lv_goto (tgt := 61) hx hb dX5_tell_57 (by decide) ?_
        exact hJ_61 r_202 x1 x_296 hp_294 nx_295 _ _ _ hw hl hH hz hS
  · have hw := hw.2 hc
    exact zr_vret hk hr hH hz hS hw (Nat.le_of_ble_eq_true rfl) (Nat.le_of_ble_eq_true rfl) dX5_tell_14
theorem fk_X5_90 {ci : Nat} (h : ci ∈ [5]) : zFk "WhatIfSheetModel" 90 ci 25 := by
  simp only [List.mem_cons, List.not_mem_nil, or_false] at h
  rcases h with rfl
  · exact ⟨RX5, TX5, 76, rfl, by decide, q2699⟩
theorem fk_X5_87 {ci : Nat} (h : ci ∈ [5]) : zFk "WhatIfSheetModel" 87 ci 24 := by
  simp only [List.mem_cons, List.not_mem_nil, or_false] at h
  rcases h with rfl
  · exact ⟨RX5, TX5, 76, rfl, by decide, q2698⟩
theorem fk_X5_31 {ci : Nat} (h : ci ∈ [5]) : zFk "WhatIfSheetModel" 31 ci 5 := by
  simp only [List.mem_cons, List.not_mem_nil, or_false] at h
  rcases h with rfl
  · exact ⟨RX5, TX5, 76, rfl, by decide, q2679⟩
def wp_X5_act (l : Launch) (g : zG) (d : Nat) (h0 : Nat) (x1 : Int32) (x2 : Int32) (hp : zHp) (nx : Nat) (Post : zHp → Nat → Prop) : Prop :=
  (∃ P_237 : zHp → Nat → Prop, (∀ (hp_1 : zHp) (nx_2 : Nat), P_237 hp_1 nx_2 →
  (Post hp_1 nx_2)) ∧
  (((24 : Int32) ≤ x2 →
  (((200 : Int32) ≤ x2 →
  ((x2 < (300 : Int32) →
  ((x2 = (200 : Int32) →
  (zgR hp (some h0) [5] 27 fun r_16 =>
  (zgI hp (some h0) [5] 26 fun x_20 =>
  (zgR hp (some h0) [5] 27 fun r_24 =>
  (zgI hp (some h0) [5] 26 fun x_28 =>
  (zaD (g.2.1 1) hp r_24 fun a_29 n_30 f_31 => vp_in (x_28 - (1 : Int32)) n_30 ∧ ∀ x_32 : UInt64, x_32 = f_31 (x_28 - (1 : Int32)).toNatClampNeg →
  (zaD (g.2.1 1) hp r_16 fun a_33 n_34 f_35 => vp_in (x_20 - (1 : Int32)) n_34 ∧ zB g ≤ a_33 ∧ ∀ hp_36 : zHp, hp_36 = va_up hp a_33 (some (.inl (g.2.1 1, n_34, .inr (.inr (.inr (.inl (va_up f_35 (x_20 - (1 : Int32)).toNatClampNeg (FP.dneg x_32)))))))) →
  P_237 hp_36 nx))))))) ∧
  (¬ x2 = (200 : Int32) →
  ((x2 = (210 : Int32) →
  (zo hp (some h0) [5] fun a_10 ci_11 fs_12 => zMt l g yX5_pick cX5_pick 2 none d 0 0 (.ref a_10 :: []) hp nx (zQv g fun hp_8 nx_9 =>
  P_237 hp_8 nx_9))) ∧
  (¬ x2 = (210 : Int32) →
  (zo hp (some h0) [5] fun a_5 ci_6 fs_7 => zMt l g yX5_two cX5_two 10 none d 0 0 (.ref a_5 :: [.int x1, .int (x2 - (200 : Int32))]) hp nx (zQv g fun hp_3 nx_4 =>
  P_237 hp_3 nx_4))))))) ∧
  (¬ x2 < (300 : Int32) →
  (¬ (10 : Int32) = 0 ∧ (∀ x_37 : Int32, x_37 = x2 - x2 / (10 : Int32) * (10 : Int32) →
  (¬ (10 : Int32) = 0 ∧ (∀ x_38 : Int32, x_38 = (x2 - (300 : Int32)) / (10 : Int32) →
  (zgR hp (some h0) [5] 6 fun r_42 =>
  (zaI (g.2.1 3) hp r_42 fun a_43 n_44 f_45 => vp_in x_37 n_44 ∧ ∀ x_46 : Int32, x_46 = f_45 x_37.toNatClampNeg →
  (∃ P_114 : Int32 → Int32 → zHp → Nat → Prop, (∀ (x_47 : Int32) (x_48 : Int32) (hp_49 : zHp) (nx_50 : Nat), P_114 x_47 x_48 hp_49 nx_50 →
  (zgR hp_49 (some h0) [5] 6 fun r_54 =>
  (zaI (g.2.1 3) hp_49 r_54 fun a_55 n_56 f_57 => vp_in x_47 n_56 ∧ ∀ x_58 : Int32, x_58 = f_57 x_47.toNatClampNeg →
  (∃ P_144 : Int32 → Int32 → (Option Nat) → UInt64 → zHp → Nat → Prop, (∀ (x_59 : Int32) (x_60 : Int32) (r_61 : Option Nat) (x_62 : UInt64) (hp_63 : zHp) (nx_64 : Nat), P_144 x_59 x_60 r_61 x_62 hp_63 nx_64 →
  (zgR hp_63 (some h0) [5] 6 fun r_68 =>
  (zaI (g.2.1 3) hp_63 r_68 fun a_69 n_70 f_71 => vp_in x_59 n_70 ∧ ∀ x_72 : Int32, x_72 = f_71 x_59.toNatClampNeg →
  (∃ P_173 : Int32 → Int32 → (Option Nat) → UInt64 → Int32 → zHp → Nat → Prop, (∀ (x_73 : Int32) (x_74 : Int32) (r_75 : Option Nat) (x_76 : UInt64) (x_77 : Int32) (hp_78 : zHp) (nx_79 : Nat), P_173 x_73 x_74 r_75 x_76 x_77 hp_78 nx_79 →
  (zo hp_78 r_75 [5] fun a_82 ci_83 fs_84 => zMt l g yX5_push cX5_push 5 none d 0 0 (.ref a_82 :: [.double x_76, .int x_77, .int x1]) hp_78 nx_79 (zQv g fun hp_80 nx_81 =>
  P_237 hp_80 nx_81))) ∧
  ((x_72 = 0 →
  P_173 x_59 x_60 r_61 x_62 (4 : Int32) hp_63 nx_64) ∧
  (¬ x_72 = 0 →
  (zgR hp_63 (some h0) [5] 25 fun r_88 =>
  (zgI hp_63 (some h0) [5] 18 fun x_92 =>
  (zaR (g.2.1 14) hp_63 r_88 fun a_93 n_94 f_95 => vp_in x_92 n_94 ∧ ∀ r_96 : Option Nat, r_96 = f_95 x_92.toNatClampNeg →
  (zaI (g.2.1 0) hp_63 r_96 fun a_97 n_98 f_99 => vp_in (((5 : Int32) * x_59) + x_60) n_98 ∧ ∀ x_100 : Int32, x_100 = f_99 (((5 : Int32) * x_59) + x_60).toNatClampNeg →
  P_173 x_59 x_60 r_61 x_62 x_100 hp_63 nx_64)))))))))) ∧
  ((x_58 = 0 →
  P_144 x_47 x_48 (some h0) FP.dconst0 hp_49 nx_50) ∧
  (¬ x_58 = 0 →
  (zgR hp_49 (some h0) [5] 24 fun r_104 =>
  (zgI hp_49 (some h0) [5] 18 fun x_108 =>
  (zaR (g.2.1 15) hp_49 r_104 fun a_109 n_110 f_111 => vp_in x_108 n_110 ∧ ∀ r_112 : Option Nat, r_112 = f_111 x_108.toNatClampNeg →
  (zaD (g.2.1 1) hp_49 r_112 fun a_113 n_114 f_115 => vp_in (((5 : Int32) * x_47) + x_48) n_114 ∧ ∀ x_116 : UInt64, x_116 = f_115 (((5 : Int32) * x_47) + x_48).toNatClampNeg →
  P_144 x_47 x_48 (some h0) x_116 hp_49 nx_50)))))))))) ∧
  ((x_46 = 0 →
  P_114 x_37 x_38 hp nx) ∧
  (¬ x_46 = 0 →
  (zo hp (some h0) [5] fun a_119 ci_120 fs_121 => zMt l g yX5_sumUp cX5_sumUp 14 none d 0 0 (.ref a_119 :: [.int x_37]) hp nx (zQv g fun hp_117 nx_118 =>
  P_114 x_37 x_38 hp_117 nx_118)))))))))))))) ∧
  (¬ (200 : Int32) ≤ x2 →
  (zgR hp (some h0) [5] 5 fun r_125 =>
  (zaR (g.2.1 15) hp r_125 fun a_126 n_127 f_128 => vp_in x1 n_127 ∧ ∀ r_129 : Option Nat, r_129 = f_128 x1.toNatClampNeg →
  (zaD (g.2.1 1) hp r_129 fun a_130 n_131 f_132 => vp_in (x2 - (100 : Int32)) n_131 ∧ ∀ x_133 : UInt64, x_133 = f_132 (x2 - (100 : Int32)).toNatClampNeg →
  (zo hp (some h0) [5] fun a_136 ci_137 fs_138 => zMt l g yX5_push cX5_push 5 none d 0 0 (.ref a_136 :: [.double x_133, .int (0 : Int32), .int (-1 : Int32)]) hp nx (zQv g fun hp_134 nx_135 =>
  P_237 hp_134 nx_135)))))))) ∧
  (¬ (24 : Int32) ≤ x2 →
  (zo hp (some h0) [5] fun a_194 ci_195 fs_196 => zMt l g yX5_tell cX5_tell 3 none d 0 0 (.ref a_194 :: [.int x2]) hp nx (zQv g fun hp_139 nx_140 =>
  (zgR hp_139 (some h0) [5] 20 fun r_144 =>
  (zgI hp_139 (some h0) [5] 18 fun x_148 =>
  (zaR (g.2.1 15) hp_139 r_144 fun a_149 n_150 f_151 => vp_in x_148 n_150 ∧ ∀ r_152 : Option Nat, r_152 = f_151 x_148.toNatClampNeg →
  (zaD (g.2.1 1) hp_139 r_152 fun a_153 n_154 f_155 => vp_in x2 n_154 ∧ ∀ x_156 : UInt64, x_156 = f_155 x2.toNatClampNeg →
  (zgR hp_139 (some h0) [5] 21 fun r_160 =>
  (zgI hp_139 (some h0) [5] 18 fun x_164 =>
  (zaR (g.2.1 14) hp_139 r_160 fun a_165 n_166 f_167 => vp_in x_164 n_166 ∧ ∀ r_168 : Option Nat, r_168 = f_167 x_164.toNatClampNeg →
  (zaI (g.2.1 0) hp_139 r_168 fun a_169 n_170 f_171 => vp_in x2 n_170 ∧ ∀ x_172 : Int32, x_172 = f_171 x2.toNatClampNeg →
  (zgR hp_139 (some h0) [5] 22 fun r_176 =>
  (zgI hp_139 (some h0) [5] 18 fun x_180 =>
  (zaR (g.2.1 14) hp_139 r_176 fun a_181 n_182 f_183 => vp_in x_180 n_182 ∧ ∀ r_184 : Option Nat, r_184 = f_183 x_180.toNatClampNeg →
  (zaI (g.2.1 0) hp_139 r_184 fun a_185 n_186 f_187 => vp_in x2 n_186 ∧ ∀ x_188 : Int32, x_188 = f_187 x2.toNatClampNeg →
  (zo hp_139 (some h0) [5] fun a_191 ci_192 fs_193 => zMt l g yX5_push cX5_push 5 none d 0 0 (.ref a_191 :: [.double x_156, .int x_172, .int x_188]) hp_139 nx_140 (zQv g fun hp_189 nx_190 =>
  P_237 hp_189 nx_190)))))))))))))))))))
set_option maxHeartbeats 40000000 in
theorem met_X5_act {l : Launch} {g : zG} {d : Nat} {h0 : Nat} {x1 : Int32} {x2 : Int32} {hp : zHp} {nx : Nat} {Post : zHp → Nat → Prop} (hw : wp_X5_act l g d h0 x1 x2 hp nx Post) : zMt l g yX5_act cX5_act 5 none (d + 1) 0 0 [.ref h0, .int x1, .int x2] hp nx (zQv g Post) := by
  refine z_start (by decide) (Nat.le_of_ble_eq_true rfl) ?_
  intro p e s m below meth c hk hr hin hH hz ls hl
  have hx := hk.1.1
  have hb := hk.1.2.1
  have hown := hk.1.2.2.2.1
  have hts := hk.1.2.2.2.2
  have hS : va_S (zAd g) s.heap s.heap [] := va_S.rf
  have hl : lv_has ls 5 [(0, va_rf (some h0)), (1, .int x1), (2, .int x2)] := hl
  unfold wp_X5_act at hw
  refine lv_iload_n hx hb dX5_act_0 rfl (lv_at hl 2 rfl) ?_
  refine lv_bipush (v := (24 : Int32)) hx hb dX5_act_1 (by decide) ?_
  obtain ⟨P_237, hP_237, hw⟩ := hw
  have hJ_237 : ∀ (hp_1 : zHp) (nx_2 : Nat) (H : Heap) (locs : List Loc) (ls : Array Slot), P_237 hp_1 nx_2 → lv_has ls 5 [(0, va_rf (some h0)), (1, .int x1), (2, .int x2)] → zHd g hp_1 H → H.size = nx_2 → va_S (zAd g) s.heap H locs → W p l e (zrm (d + 1) 0 0) s m ([.ref h0, .int x1, .int x2] : List Value).toArray below meth c H locs 0 0 (MQ below (zQv g Post) ([.ref h0, .int x1, .int x2] : List Value).toArray s 0 0 (zAd g)) (F0 m 237 ls []) := by
    intro hp_1 nx_2 H locs ls hw hl hH hz hS
    have hw := hP_237 hp_1 nx_2 hw
    exact zr_vret hk hr hH hz hS hw (Nat.le_of_ble_eq_true rfl) (Nat.le_of_ble_eq_true rfl) dX5_act_237
  refine lv_icmp_ge (tgt := 51) hx hb dX5_act_3 (by decide) (fun hc => ?_) (fun hc => ?_)
  · have hw := hw.1 hc
    refine lv_iload_n hx hb dX5_act_51 rfl (lv_at hl 2 rfl) ?_
    refine lv_sipush (v := (200 : Int32)) hx hb dX5_act_52 (by decide) ?_
    refine lv_icmp_ge (tgt := 78) hx hb dX5_act_55 (by decide) (fun hc => ?_) (fun hc => ?_)
    · have hw := hw.1 hc
      refine lv_iload_n hx hb dX5_act_78 rfl (lv_at hl 2 rfl) ?_
      refine lv_sipush (v := (300 : Int32)) hx hb dX5_act_79 (by decide) ?_
      refine lv_icmp_lt (tgt := 180) hx hb dX5_act_82 (by decide) (fun hc => ?_) (fun hc => ?_)
      · have hw := hw.1 hc
        refine lv_iload_n hx hb dX5_act_180 rfl (lv_at hl 2 rfl) ?_
        refine lv_sipush (v := (200 : Int32)) hx hb dX5_act_181 (by decide) ?_
        refine lv_icmp_ne (tgt := 213) hx hb dX5_act_184 (by decide) (fun hc => ?_) (fun hc => ?_)
        · have hw := hw.2 hc
          refine lv_iload_n hx hb dX5_act_213 rfl (lv_at hl 2 rfl) ?_
          refine lv_sipush (v := (210 : Int32)) hx hb dX5_act_214 (by decide) ?_
          refine lv_icmp_ne (tgt := 227) hx hb dX5_act_217 (by decide) (fun hc => ?_) (fun hc => ?_)
          · have hw := hw.2 hc
            refine zr_aload_n (r := some h0) hx hb dX5_act_227 rfl (lv_at hl 0 rfl) ?_
            refine lv_iload_n hx hb dX5_act_228 rfl (lv_at hl 1 rfl) ?_
            refine lv_iload_n hx hb dX5_act_229 rfl (lv_at hl 2 rfl) ?_
            refine lv_sipush (v := (200 : Int32)) hx hb dX5_act_230 (by decide) ?_
            refine lv_isub hx hb dX5_act_233 ?_
            obtain ⟨a_5, ci_6, fs_7, er, he, hc, hw⟩ := zo_e hw
            obtain rfl := List.mem_singleton.mp hc
            refine zr_callv (zw_runV (As := [.int x1, .int (x2 - (200 : Int32))]) hk hH hz hS hl.1 er hw (cwV 2 hts (lw_V q3029 q3031 qs89 q162 q3032) rfl rfl rfl (by decide +kernel) (z_room (Nat.le_of_ble_eq_true rfl))) he rfl rfl rfl (Nat.le_of_ble_eq_true rfl) dX5_act_234 ⟨Nat.le_of_ble_eq_true rfl, Nat.le_of_ble_eq_true rfl⟩) hS (fun hp_3 nx_4 hw H locs hH hz hS => ?_)
            exact hJ_237 hp_3 nx_4 _ _ _ hw hl hH hz hS
          · have hw := hw.1 hc
            refine zr_aload_n (r := some h0) hx hb dX5_act_220 rfl (lv_at hl 0 rfl) ?_
            obtain ⟨a_10, ci_11, fs_12, er, he, hc, hw⟩ := zo_e hw
            obtain rfl := List.mem_singleton.mp hc
            refine zr_callv (zw_runV (As := []) hk hH hz hS hl.1 er hw (cwV 0 hts (lw_V q3025 q3027 qs88 q162 q3028) rfl rfl rfl (by decide +kernel) (z_room (Nat.le_of_ble_eq_true rfl))) he rfl rfl rfl (Nat.le_of_ble_eq_true rfl) dX5_act_221 ⟨Nat.le_of_ble_eq_true rfl, Nat.le_of_ble_eq_true rfl⟩) hS (fun hp_8 nx_9 hw H locs hH hz hS => ?_)
            refine lv_goto (tgt := 237) hx hb dX5_act_224 (by decide) ?_
            exact hJ_237 hp_8 nx_9 _ _ _ hw hl hH hz hS
        · have hw := hw.1 hc
          refine zr_aload_n (r := some h0) hx hb dX5_act_187 rfl (lv_at hl 0 rfl) ?_
          obtain ⟨a_13, ci_14, fs_15, r_16, er, he, hc, hv, hw⟩ := zgR_e hw
          refine zw_get hk hH er he hv (fk_X5_93 hc) dX5_act_188 ?_
          refine zr_aload_n (r := some h0) hx hb dX5_act_191 rfl (lv_at hl 0 rfl) ?_
          obtain ⟨a_17, ci_18, fs_19, x_20, er, he, hc, hv, hw⟩ := zgI_e hw
          refine zw_get hk hH er he hv (fk_X5_243 hc) dX5_act_192 ?_
          refine lv_iconst (v := (1 : Int32)) hx hb dX5_act_195 (by decide) ?_
          refine lv_isub hx hb dX5_act_196 ?_
          refine zr_aload_n (r := some h0) hx hb dX5_act_197 rfl (lv_at hl 0 rfl) ?_
          obtain ⟨a_21, ci_22, fs_23, r_24, er, he, hc, hv, hw⟩ := zgR_e hw
          refine zw_get hk hH er he hv (fk_X5_93 hc) dX5_act_198 ?_
          refine zr_aload_n (r := some h0) hx hb dX5_act_201 rfl (lv_at hl 0 rfl) ?_
          obtain ⟨a_25, ci_26, fs_27, x_28, er, he, hc, hv, hw⟩ := zgI_e hw
          refine zw_get hk hH er he hv (fk_X5_243 hc) dX5_act_202 ?_
          refine lv_iconst (v := (1 : Int32)) hx hb dX5_act_205 (by decide) ?_
          refine lv_isub hx hb dX5_act_206 ?_
          obtain ⟨a_29, n_30, f_31, er, he, hi, hw⟩ := zaD_e hw
          have hw := hw _ rfl
          refine zw_dald hk hH er he hi dX5_act_207 ?_
          generalize f_31 (x_28 - (1 : Int32)).toNatClampNeg = x_32 at hw ⊢
          refine lv_dneg hx hb dX5_act_208 ?_
          obtain ⟨a_33, n_34, f_35, er, he, hi, hA, hw⟩ := zaD_e hw
          obtain ⟨hp_36, eh⟩ : ∃ y : zHp, y = va_up hp a_33 (some (.inl (g.2.1 1, n_34, .inr (.inr (.inr (.inl (va_up f_35 (x_20 - (1 : Int32)).toNatClampNeg (FP.dneg x_32)))))))) := ⟨_, rfl⟩
          have hw := hw hp_36 eh
          refine zw_dast hk hH hz hS er he hi hA eh dX5_act_209 (fun H locs hH hz hS => ?_)
          refine lv_goto (tgt := 237) hx hb dX5_act_210 (by decide) ?_
          exact hJ_237 hp_36 nx _ _ _ hw hl hH hz hS
      · have hw := hw.2 hc
        refine lv_iload_n hx hb dX5_act_85 rfl (lv_at hl 2 rfl) ?_
        refine lv_bipush (v := (10 : Int32)) hx hb dX5_act_86 (by decide) ?_
        obtain ⟨hne, hw⟩ := hw
        refine lv_irem hx hb dX5_act_88 hne ?_
        refine lv_topi (fun x_37 ex_37 => ?_)
        have hw := hw x_37 ex_37
        refine lv_istore_n (i := 3) (lv' := [(3, .int x_37), (0, va_rf (some h0)), (1, .int x1), (2, .int x2)]) hx hb dX5_act_89 rfl hl (by decide) (by first | rfl | simp [List.filter_cons, z_cat, z_catI, z_catJ, z_catF, z_catD]) (fun ls hl => ?_)
        refine lv_iload_n hx hb dX5_act_90 rfl (lv_at hl 3 rfl) ?_
        refine lv_sipush (v := (300 : Int32)) hx hb dX5_act_91 (by decide) ?_
        refine lv_isub hx hb dX5_act_94 ?_
        refine lv_bipush (v := (10 : Int32)) hx hb dX5_act_95 (by decide) ?_
        obtain ⟨hne, hw⟩ := hw
        refine lv_idiv hx hb dX5_act_97 hne ?_
        refine lv_topi (fun x_38 ex_38 => ?_)
        have hw := hw x_38 ex_38
        refine lv_istore (lv' := [(4, .int x_38), (3, .int x_37), (0, va_rf (some h0)), (1, .int x1), (2, .int x2)]) hx hb dX5_act_98 hl (by decide) (by first | rfl | simp [List.filter_cons, z_cat, z_catI, z_catJ, z_catF, z_catD]) (fun ls hl => ?_)
        refine zr_aload_n (r := some h0) hx hb dX5_act_100 rfl (lv_at hl 2 rfl) ?_
        obtain ⟨a_39, ci_40, fs_41, r_42, er, he, hc, hv, hw⟩ := zgR_e hw
        refine zw_get hk hH er he hv (fk_X5_34 hc) dX5_act_101 ?_
        refine lv_iload_n hx hb dX5_act_104 rfl (lv_at hl 1 rfl) ?_
        obtain ⟨a_43, n_44, f_45, er, he, hi, hw⟩ := zaI_e hw
        have hw := hw _ rfl
        refine zw_zald hk hH er he hi dX5_act_105 ?_
        generalize f_45 x_37.toNatClampNeg = x_46 at hw ⊢
        obtain ⟨P_114, hP_114, hw⟩ := hw
        have hJ_114 : ∀ (x_47 : Int32) (x_48 : Int32) (hp_49 : zHp) (nx_50 : Nat) (H : Heap) (locs : List Loc) (ls : Array Slot), P_114 x_47 x_48 hp_49 nx_50 → lv_has ls 5 [(0, va_rf (some h0)), (1, .int x1), (2, .int x2), (3, .int x_47), (4, .int x_48)] → zHd g hp_49 H → H.size = nx_50 → va_S (zAd g) s.heap H locs → W p l e (zrm (d + 1) 0 0) s m ([.ref h0, .int x1, .int x2] : List Value).toArray below meth c H locs 0 0 (MQ below (zQv g Post) ([.ref h0, .int x1, .int x2] : List Value).toArray s 0 0 (zAd g)) (F0 m 114 ls []) := by
          intro x_47 x_48 hp_49 nx_50 H locs ls hw hl hH hz hS
          have hw := hP_114 x_47 x_48 hp_49 nx_50 hw
          refine zr_aload_n (r := some h0) hx hb dX5_act_114 rfl (lv_at hl 0 rfl) ?_
          refine zr_aload_n (r := some h0) hx hb dX5_act_115 rfl (lv_at hl 0 rfl) ?_
          obtain ⟨a_51, ci_52, fs_53, r_54, er, he, hc, hv, hw⟩ := zgR_e hw
          refine zw_get hk hH er he hv (fk_X5_34 hc) dX5_act_116 ?_
          refine lv_iload_n hx hb dX5_act_119 rfl (lv_at hl 3 rfl) ?_
          obtain ⟨a_55, n_56, f_57, er, he, hi, hw⟩ := zaI_e hw
          have hw := hw _ rfl
          refine zw_zald hk hH er he hi dX5_act_120 ?_
          generalize f_57 x_47.toNatClampNeg = x_58 at hw ⊢
          obtain ⟨P_144, hP_144, hw⟩ := hw
          have hJ_144 : ∀ (x_59 : Int32) (x_60 : Int32) (r_61 : Option Nat) (x_62 : UInt64) (hp_63 : zHp) (nx_64 : Nat) (H : Heap) (locs : List Loc) (ls : Array Slot), P_144 x_59 x_60 r_61 x_62 hp_63 nx_64 → lv_has ls 5 [(0, va_rf (some h0)), (1, .int x1), (2, .int x2), (3, .int x_59), (4, .int x_60)] → zHd g hp_63 H → H.size = nx_64 → va_S (zAd g) s.heap H locs → W p l e (zrm (d + 1) 0 0) s m ([.ref h0, .int x1, .int x2] : List Value).toArray below meth c H locs 0 0 (MQ below (zQv g Post) ([.ref h0, .int x1, .int x2] : List Value).toArray s 0 0 (zAd g)) (F0 m 144 ls [.double x_62, va_rf r_61]) := by
            intro x_59 x_60 r_61 x_62 hp_63 nx_64 H locs ls hw hl hH hz hS
            have hw := hP_144 x_59 x_60 r_61 x_62 hp_63 nx_64 hw
            refine zr_aload_n (r := some h0) hx hb dX5_act_144 rfl (lv_at hl 0 rfl) ?_
            obtain ⟨a_65, ci_66, fs_67, r_68, er, he, hc, hv, hw⟩ := zgR_e hw
            refine zw_get hk hH er he hv (fk_X5_34 hc) dX5_act_145 ?_
            refine lv_iload_n hx hb dX5_act_148 rfl (lv_at hl 3 rfl) ?_
            obtain ⟨a_69, n_70, f_71, er, he, hi, hw⟩ := zaI_e hw
            have hw := hw _ rfl
            refine zw_zald hk hH er he hi dX5_act_149 ?_
            generalize f_71 x_59.toNatClampNeg = x_72 at hw ⊢
            obtain ⟨P_173, hP_173, hw⟩ := hw
            have hJ_173 : ∀ (x_73 : Int32) (x_74 : Int32) (r_75 : Option Nat) (x_76 : UInt64) (x_77 : Int32) (hp_78 : zHp) (nx_79 : Nat) (H : Heap) (locs : List Loc) (ls : Array Slot), P_173 x_73 x_74 r_75 x_76 x_77 hp_78 nx_79 → lv_has ls 5 [(0, va_rf (some h0)), (1, .int x1), (2, .int x2), (3, .int x_73), (4, .int x_74)] → zHd g hp_78 H → H.size = nx_79 → va_S (zAd g) s.heap H locs → W p l e (zrm (d + 1) 0 0) s m ([.ref h0, .int x1, .int x2] : List Value).toArray below meth c H locs 0 0 (MQ below (zQv g Post) ([.ref h0, .int x1, .int x2] : List Value).toArray s 0 0 (zAd g)) (F0 m 173 ls [.int x_77, .double x_76, va_rf r_75]) := by
              intro x_73 x_74 r_75 x_76 x_77 hp_78 nx_79 H locs ls hw hl hH hz hS
              have hw := hP_173 x_73 x_74 r_75 x_76 x_77 hp_78 nx_79 hw
              refine lv_iload_n hx hb dX5_act_173 rfl (lv_at hl 1 rfl) ?_
              obtain ⟨a_82, ci_83, fs_84, er, he, hc, hw⟩ := zo_e hw
              obtain rfl := List.mem_singleton.mp hc
              refine zr_callv (zw_runV (As := [.double x_76, .int x_77, .int x1]) hk hH hz hS hl.1 er hw (cwV 3 hts (lw_V q3011 q3013 qs85 q162 q3014) rfl rfl rfl (by decide +kernel) (z_room (Nat.le_of_ble_eq_true rfl))) he rfl rfl rfl (Nat.le_of_ble_eq_true rfl) dX5_act_174 ⟨Nat.le_of_ble_eq_true rfl, Nat.le_of_ble_eq_true rfl⟩) hS (fun hp_80 nx_81 hw H locs hH hz hS => ?_)
              refine lv_goto (tgt := 237) hx hb dX5_act_177 (by decide) ?_
              exact hJ_237 hp_80 nx_81 _ _ _ hw (lv_sub hl [0, 1, 2] rfl) hH hz hS
            refine lv_if_eq (tgt := 172) hx hb dX5_act_150 (by decide) (fun hc => ?_) (fun hc => ?_)
            · have hw := hw.1 hc
              refine lv_iconst (v := (4 : Int32)) hx hb dX5_act_172 (by decide) ?_
              exact hJ_173 x_59 x_60 r_61 x_62 (4 : Int32) hp_63 nx_64 _ _ _ hw hl hH hz hS
            · have hw := hw.2 hc
              refine zr_aload_n (r := some h0) hx hb dX5_act_153 rfl (lv_at hl 0 rfl) ?_
              obtain ⟨a_85, ci_86, fs_87, r_88, er, he, hc, hv, hw⟩ := zgR_e hw
              refine zw_get hk hH er he hv (fk_X5_90 hc) dX5_act_154 ?_
              refine zr_aload_n (r := some h0) hx hb dX5_act_157 rfl (lv_at hl 0 rfl) ?_
              obtain ⟨a_89, ci_90, fs_91, x_92, er, he, hc, hv, hw⟩ := zgI_e hw
              refine zw_get hk hH er he hv (fk_X5_247 hc) dX5_act_158 ?_
              obtain ⟨a_93, n_94, f_95, er, he, hi, hw⟩ := zaR_e hw
              have hw := hw _ rfl
              refine zw_aald hk hH 14 er he rfl rfl hi dX5_act_161 ?_
              generalize f_95 x_92.toNatClampNeg = r_96 at hw ⊢
              refine lv_iconst (v := (5 : Int32)) hx hb dX5_act_162 (by decide) ?_
              refine lv_iload_n hx hb dX5_act_163 rfl (lv_at hl 3 rfl) ?_
              refine lv_imul hx hb dX5_act_164 ?_
              refine lv_iload hx hb dX5_act_165 (lv_at hl 4 rfl) ?_
              refine lv_iadd hx hb dX5_act_167 ?_
              obtain ⟨a_97, n_98, f_99, er, he, hi, hw⟩ := zaI_e hw
              have hw := hw _ rfl
              refine zw_iald hk hH er he hi dX5_act_168 ?_
              generalize f_99 (((5 : Int32) * x_59) + x_60).toNatClampNeg = x_100 at hw ⊢
              refine lv_goto (tgt := 173) hx hb dX5_act_169 (by decide) ?_
              exact hJ_173 x_59 x_60 r_61 x_62 x_100 hp_63 nx_64 _ _ _ hw hl hH hz hS
          refine lv_if_eq (tgt := 143) hx hb dX5_act_121 (by decide) (fun hc => ?_) (fun hc => ?_)
          · have hw := hw.1 hc
            refine lv_dconst0 hx hb dX5_act_143 ?_
            exact hJ_144 x_47 x_48 (some h0) FP.dconst0 hp_49 nx_50 _ _ _ hw hl hH hz hS
          · have hw := hw.2 hc
            refine zr_aload_n (r := some h0) hx hb dX5_act_124 rfl (lv_at hl 0 rfl) ?_
            obtain ⟨a_101, ci_102, fs_103, r_104, er, he, hc, hv, hw⟩ := zgR_e hw
            refine zw_get hk hH er he hv (fk_X5_87 hc) dX5_act_125 ?_
            refine zr_aload_n (r := some h0) hx hb dX5_act_128 rfl (lv_at hl 0 rfl) ?_
            obtain ⟨a_105, ci_106, fs_107, x_108, er, he, hc, hv, hw⟩ := zgI_e hw
            refine zw_get hk hH er he hv (fk_X5_247 hc) dX5_act_129 ?_
            obtain ⟨a_109, n_110, f_111, er, he, hi, hw⟩ := zaR_e hw
            have hw := hw _ rfl
            refine zw_aald hk hH 15 er he rfl rfl hi dX5_act_132 ?_
            generalize f_111 x_108.toNatClampNeg = r_112 at hw ⊢
            refine lv_iconst (v := (5 : Int32)) hx hb dX5_act_133 (by decide) ?_
            refine lv_iload_n hx hb dX5_act_134 rfl (lv_at hl 3 rfl) ?_
            refine lv_imul hx hb dX5_act_135 ?_
            refine lv_iload hx hb dX5_act_136 (lv_at hl 4 rfl) ?_
            refine lv_iadd hx hb dX5_act_138 ?_
            obtain ⟨a_113, n_114, f_115, er, he, hi, hw⟩ := zaD_e hw
            have hw := hw _ rfl
            refine zw_dald hk hH er he hi dX5_act_139 ?_
            generalize f_115 (((5 : Int32) * x_47) + x_48).toNatClampNeg = x_116 at hw ⊢
            refine lv_goto (tgt := 144) hx hb dX5_act_140 (by decide) ?_
            exact hJ_144 x_47 x_48 (some h0) x_116 hp_49 nx_50 _ _ _ hw hl hH hz hS
        refine lv_if_eq (tgt := 114) hx hb dX5_act_106 (by decide) (fun hc => ?_) (fun hc => ?_)
        · have hw := hw.1 hc
          exact hJ_114 x_37 x_38 hp nx _ _ _ hw (lv_sub hl [2, 3, 4, 1, 0] rfl) hH hz hS
        · have hw := hw.2 hc
          refine zr_aload_n (r := some h0) hx hb dX5_act_109 rfl (lv_at hl 2 rfl) ?_
          refine lv_iload_n hx hb dX5_act_110 rfl (lv_at hl 1 rfl) ?_
          obtain ⟨a_119, ci_120, fs_121, er, he, hc, hw⟩ := zo_e hw
          obtain rfl := List.mem_singleton.mp hc
          refine zr_callv (zw_runV (As := [.int x_37]) hk hH hz hS hl.1 er hw (cwV 1 hts (lw_V q3015 q3017 qs86 q162 q3018) rfl rfl rfl (by decide +kernel) (z_room (Nat.le_of_ble_eq_true rfl))) he rfl rfl rfl (Nat.le_of_ble_eq_true rfl) dX5_act_111 ⟨Nat.le_of_ble_eq_true rfl, Nat.le_of_ble_eq_true rfl⟩) hS (fun hp_117 nx_118 hw H locs hH hz hS => ?_)
          exact hJ_114 x_37 x_38 hp_117 nx_118 _ _ _ hw (lv_sub hl [2, 3, 4, 1, 0] rfl) hH hz hS
    · have hw := hw.2 hc
      refine zr_aload_n (r := some h0) hx hb dX5_act_58 rfl (lv_at hl 0 rfl) ?_
      refine zr_aload_n (r := some h0) hx hb dX5_act_59 rfl (lv_at hl 0 rfl) ?_
      obtain ⟨a_122, ci_123, fs_124, r_125, er, he, hc, hv, hw⟩ := zgR_e hw
      refine zw_get hk hH er he hv (fk_X5_31 hc) dX5_act_60 ?_
      refine lv_iload_n hx hb dX5_act_63 rfl (lv_at hl 1 rfl) ?_
      obtain ⟨a_126, n_127, f_128, er, he, hi, hw⟩ := zaR_e hw
      have hw := hw _ rfl
      refine zw_aald hk hH 15 er he rfl rfl hi dX5_act_64 ?_
      generalize f_128 x1.toNatClampNeg = r_129 at hw ⊢
      refine lv_iload_n hx hb dX5_act_65 rfl (lv_at hl 2 rfl) ?_
      refine lv_bipush (v := (100 : Int32)) hx hb dX5_act_66 (by decide) ?_
      refine lv_isub hx hb dX5_act_68 ?_
      obtain ⟨a_130, n_131, f_132, er, he, hi, hw⟩ := zaD_e hw
      have hw := hw _ rfl
      refine zw_dald hk hH er he hi dX5_act_69 ?_
      generalize f_132 (x2 - (100 : Int32)).toNatClampNeg = x_133 at hw ⊢
      refine lv_iconst (v := (0 : Int32)) hx hb dX5_act_70 (by decide) ?_
      refine lv_iconst (v := (-1 : Int32)) hx hb dX5_act_71 (by decide) ?_
      obtain ⟨a_136, ci_137, fs_138, er, he, hc, hw⟩ := zo_e hw
      obtain rfl := List.mem_singleton.mp hc
      refine zr_callv (zw_runV (As := [.double x_133, .int (0 : Int32), .int (-1 : Int32)]) hk hH hz hS hl.1 er hw (cwV 3 hts (lw_V q3011 q3013 qs85 q162 q3014) rfl rfl rfl (by decide +kernel) (z_room (Nat.le_of_ble_eq_true rfl))) he rfl rfl rfl (Nat.le_of_ble_eq_true rfl) dX5_act_72 ⟨Nat.le_of_ble_eq_true rfl, Nat.le_of_ble_eq_true rfl⟩) hS (fun hp_134 nx_135 hw H locs hH hz hS => ?_)
      refine lv_goto (tgt := 237) hx hb dX5_act_75 (by decide) ?_
      exact hJ_237 hp_134 nx_135 _ _ _ hw hl hH hz hS
  · have hw := hw.2 hc
    refine zr_aload_n (r := some h0) hx hb dX5_act_6 rfl (lv_at hl 0 rfl) ?_
    refine lv_iload_n hx hb dX5_act_7 rfl (lv_at hl 2 rfl) ?_
    obtain ⟨a_194, ci_195, fs_196, er, he, hc, hw⟩ := zo_e hw
    obtain rfl := List.mem_singleton.mp hc
    refine zr_callv (zw_runV (As := [.int x2]) hk hH hz hS hl.1 er hw (cwV 1 hts (lw_V q3003 q3005 qs83 q162 q3006) rfl rfl rfl (by decide +kernel) (z_room (Nat.le_of_ble_eq_true rfl))) he rfl rfl rfl (Nat.le_of_ble_eq_true rfl) dX5_act_8 ⟨Nat.le_of_ble_eq_true rfl, Nat.le_of_ble_eq_true rfl⟩) hS (fun hp_139 nx_140 hw H locs hH hz hS => ?_)
    refine zr_aload_n (r := some h0) hx hb dX5_act_11 rfl (lv_at hl 0 rfl) ?_
    refine zr_aload_n (r := some h0) hx hb dX5_act_12 rfl (lv_at hl 0 rfl) ?_
    obtain ⟨a_141, ci_142, fs_143, r_144, er, he, hc, hv, hw⟩ := zgR_e hw
    refine zw_get hk hH er he hv (fk_X5_75 hc) dX5_act_13 ?_
    refine zr_aload_n (r := some h0) hx hb dX5_act_16 rfl (lv_at hl 0 rfl) ?_
    obtain ⟨a_145, ci_146, fs_147, x_148, er, he, hc, hv, hw⟩ := zgI_e hw
    refine zw_get hk hH er he hv (fk_X5_247 hc) dX5_act_17 ?_
    obtain ⟨a_149, n_150, f_151, er, he, hi, hw⟩ := zaR_e hw
    have hw := hw _ rfl
    refine zw_aald hk hH 15 er he rfl rfl hi dX5_act_20 ?_
    generalize f_151 x_148.toNatClampNeg = r_152 at hw ⊢
    refine lv_iload_n hx hb dX5_act_21 rfl (lv_at hl 2 rfl) ?_
    obtain ⟨a_153, n_154, f_155, er, he, hi, hw⟩ := zaD_e hw
    have hw := hw _ rfl
    refine zw_dald hk hH er he hi dX5_act_22 ?_
    generalize f_155 x2.toNatClampNeg = x_156 at hw ⊢
    refine zr_aload_n (r := some h0) hx hb dX5_act_23 rfl (lv_at hl 0 rfl) ?_
    obtain ⟨a_157, ci_158, fs_159, r_160, er, he, hc, hv, hw⟩ := zgR_e hw
    refine zw_get hk hH er he hv (fk_X5_78 hc) dX5_act_24 ?_
    refine zr_aload_n (r := some h0) hx hb dX5_act_27 rfl (lv_at hl 0 rfl) ?_
    obtain ⟨a_161, ci_162, fs_163, x_164, er, he, hc, hv, hw⟩ := zgI_e hw
    refine zw_get hk hH er he hv (fk_X5_247 hc) dX5_act_28 ?_
    obtain ⟨a_165, n_166, f_167, er, he, hi, hw⟩ := zaR_e hw
    have hw := hw _ rfl
    refine zw_aald hk hH 14 er he rfl rfl hi dX5_act_31 ?_
    generalize f_167 x_164.toNatClampNeg = r_168 at hw ⊢
    refine lv_iload_n hx hb dX5_act_32 rfl (lv_at hl 2 rfl) ?_
    obtain ⟨a_169, n_170, f_171, er, he, hi, hw⟩ := zaI_e hw
    have hw := hw _ rfl
    refine zw_iald hk hH er he hi dX5_act_33 ?_
    generalize f_171 x2.toNatClampNeg = x_172 at hw ⊢
    refine zr_aload_n (r := some h0) hx hb dX5_act_34 rfl (lv_at hl 0 rfl) ?_
    obtain ⟨a_173, ci_174, fs_175, r_176, er, he, hc, hv, hw⟩ := zgR_e hw
    refine zw_get hk hH er he hv (fk_X5_81 hc) dX5_act_35 ?_
    refine zr_aload_n (r := some h0) hx hb dX5_act_38 rfl (lv_at hl 0 rfl) ?_
    obtain ⟨a_177, ci_178, fs_179, x_180, er, he, hc, hv, hw⟩ := zgI_e hw
    refine zw_get hk hH er he hv (fk_X5_247 hc) dX5_act_39 ?_
    obtain ⟨a_181, n_182, f_183, er, he, hi, hw⟩ := zaR_e hw
    have hw := hw _ rfl
    refine zw_aald hk hH 14 er he rfl rfl hi dX5_act_42 ?_
    generalize f_183 x_180.toNatClampNeg = r_184 at hw ⊢
    refine lv_iload_n hx hb dX5_act_43 rfl (lv_at hl 2 rfl) ?_
    obtain ⟨a_185, n_186, f_187, er, he, hi, hw⟩ := zaI_e hw
    have hw := hw _ rfl
    refine zw_iald hk hH er he hi dX5_act_44 ?_
    generalize f_187 x2.toNatClampNeg = x_188 at hw ⊢
    obtain ⟨a_191, ci_192, fs_193, er, he, hc, hw⟩ := zo_e hw
    obtain rfl := List.mem_singleton.mp hc
    refine zr_callv (zw_runV (As := [.double x_156, .int x_172, .int x_188]) hk hH hz hS hl.1 er hw (cwV 3 hts (lw_V q3011 q3013 qs85 q162 q3014) rfl rfl rfl (by decide +kernel) (z_room (Nat.le_of_ble_eq_true rfl))) he rfl rfl rfl (Nat.le_of_ble_eq_true rfl) dX5_act_45 ⟨Nat.le_of_ble_eq_true rfl, Nat.le_of_ble_eq_true rfl⟩) hS (fun hp_189 nx_190 hw H locs hH hz hS => ?_)
    refine lv_goto (tgt := 237) hx hb dX5_act_48 (by decide) ?_
    exact hJ_237 hp_189 nx_190 _ _ _ hw hl hH hz hS
def wp_X5_push (l : Launch) (g : zG) (d : Nat) (h0 : Nat) (x1 : UInt64) (x3 : Int32) (x4 : Int32) (hp : zHp) (nx : Nat) (Post : zHp → Nat → Prop) : Prop :=
  (zgR hp (some h0) [5] 27 fun r_4 =>
  (zgI hp (some h0) [5] 26 fun x_8 =>
  (zaD (g.2.1 1) hp r_4 fun a_9 n_10 f_11 => vp_in x_8 n_10 ∧ zB g ≤ a_9 ∧ ∀ hp_12 : zHp, hp_12 = va_up hp a_9 (some (.inl (g.2.1 1, n_10, .inr (.inr (.inr (.inl (va_up f_11 x_8.toNatClampNeg x1))))))) →
  (zgR hp_12 (some h0) [5] 28 fun r_16 =>
  (zgI hp_12 (some h0) [5] 26 fun x_20 =>
  (zaI (g.2.1 0) hp_12 r_16 fun a_21 n_22 f_23 => vp_in x_20 n_22 ∧ zB g ≤ a_21 ∧ ∀ hp_24 : zHp, hp_24 = va_up hp_12 a_21 (some (.inl (g.2.1 0, n_22, .inl (va_up f_23 x_20.toNatClampNeg x3)))) →
  (zgR hp_24 (some h0) [5] 29 fun r_28 =>
  (zgI hp_24 (some h0) [5] 26 fun x_32 =>
  (∃ P_38 : (Option Nat) → Int32 → Int32 → zHp → Prop, (∀ (r_33 : Option Nat) (x_34 : Int32) (x_35 : Int32) (hp_36 : zHp), P_38 r_33 x_34 x_35 hp_36 →
  (zaI (g.2.1 0) hp_36 r_33 fun a_37 n_38 f_39 => vp_in x_34 n_38 ∧ zB g ≤ a_37 ∧ ∀ hp_40 : zHp, hp_40 = va_up hp_36 a_37 (some (.inl (g.2.1 0, n_38, .inl (va_up f_39 x_34.toNatClampNeg x_35)))) →
  (zgI hp_40 (some h0) [5] 26 fun x_44 =>
  (zpt g hp_40 (some h0) [5] 26 (.int (x_44 + (1 : Int32))) fun hp_48 =>
  (Post hp_48 nx))))) ∧
  ((x3 = 0 →
  P_38 r_28 x_32 (-1 : Int32) hp_24) ∧
  (¬ x3 = 0 →
  P_38 r_28 x_32 x4 hp_24)))))))))))
set_option maxHeartbeats 40000000 in
theorem met_X5_push {l : Launch} {g : zG} {d : Nat} {h0 : Nat} {x1 : UInt64} {x3 : Int32} {x4 : Int32} {hp : zHp} {nx : Nat} {Post : zHp → Nat → Prop} (hw : wp_X5_push l g d h0 x1 x3 x4 hp nx Post) : zMt l g yX5_push cX5_push 5 none (d + 1) 0 0 [.ref h0, .double x1, .int x3, .int x4] hp nx (zQv g Post) := by
  refine z_start (by decide) (Nat.le_of_ble_eq_true rfl) ?_
  intro p e s m below meth c hk hr hin hH hz ls hl
  have hx := hk.1.1
  have hb := hk.1.2.1
  have hown := hk.1.2.2.2.1
  have hts := hk.1.2.2.2.2
  have hS : va_S (zAd g) s.heap s.heap [] := va_S.rf
  have hl : lv_has ls 5 [(0, va_rf (some h0)), (1, .double x1), (3, .int x3), (4, .int x4)] := hl
  unfold wp_X5_push at hw
  refine zr_aload_n (r := some h0) hx hb dX5_push_0 rfl (lv_at hl 0 rfl) ?_
  obtain ⟨a_1, ci_2, fs_3, r_4, er, he, hc, hv, hw⟩ := zgR_e hw
  refine zw_get hk hH er he hv (fk_X5_93 hc) dX5_push_1 ?_
  refine zr_aload_n (r := some h0) hx hb dX5_push_4 rfl (lv_at hl 0 rfl) ?_
  obtain ⟨a_5, ci_6, fs_7, x_8, er, he, hc, hv, hw⟩ := zgI_e hw
  refine zw_get hk hH er he hv (fk_X5_243 hc) dX5_push_5 ?_
  refine lv_dload_n hx hb dX5_push_8 rfl (lv_at hl 1 rfl) ?_
  obtain ⟨a_9, n_10, f_11, er, he, hi, hA, hw⟩ := zaD_e hw
  obtain ⟨hp_12, eh⟩ : ∃ y : zHp, y = va_up hp a_9 (some (.inl (g.2.1 1, n_10, .inr (.inr (.inr (.inl (va_up f_11 x_8.toNatClampNeg x1))))))) := ⟨_, rfl⟩
  have hw := hw hp_12 eh
  refine zw_dast hk hH hz hS er he hi hA eh dX5_push_9 (fun H locs hH hz hS => ?_)
  refine zr_aload_n (r := some h0) hx hb dX5_push_10 rfl (lv_at hl 0 rfl) ?_
  obtain ⟨a_13, ci_14, fs_15, r_16, er, he, hc, hv, hw⟩ := zgR_e hw
  refine zw_get hk hH er he hv (fk_X5_96 hc) dX5_push_11 ?_
  refine zr_aload_n (r := some h0) hx hb dX5_push_14 rfl (lv_at hl 0 rfl) ?_
  obtain ⟨a_17, ci_18, fs_19, x_20, er, he, hc, hv, hw⟩ := zgI_e hw
  refine zw_get hk hH er he hv (fk_X5_243 hc) dX5_push_15 ?_
  refine lv_iload_n hx hb dX5_push_18 rfl (lv_at hl 2 rfl) ?_
  obtain ⟨a_21, n_22, f_23, er, he, hi, hA, hw⟩ := zaI_e hw
  obtain ⟨hp_24, eh⟩ : ∃ y : zHp, y = va_up hp_12 a_21 (some (.inl (g.2.1 0, n_22, .inl (va_up f_23 x_20.toNatClampNeg x3)))) := ⟨_, rfl⟩
  have hw := hw hp_24 eh
  refine zw_iast hk hH hz hS er he hi hA eh dX5_push_19 (fun H locs hH hz hS => ?_)
  refine zr_aload_n (r := some h0) hx hb dX5_push_20 rfl (lv_at hl 0 rfl) ?_
  obtain ⟨a_25, ci_26, fs_27, r_28, er, he, hc, hv, hw⟩ := zgR_e hw
  refine zw_get hk hH er he hv (fk_X5_99 hc) dX5_push_21 ?_
  refine zr_aload_n (r := some h0) hx hb dX5_push_24 rfl (lv_at hl 0 rfl) ?_
  obtain ⟨a_29, ci_30, fs_31, x_32, er, he, hc, hv, hw⟩ := zgI_e hw
  refine zw_get hk hH er he hv (fk_X5_243 hc) dX5_push_25 ?_
  refine lv_iload_n hx hb dX5_push_28 rfl (lv_at hl 2 rfl) ?_
  obtain ⟨P_38, hP_38, hw⟩ := hw
  have hJ_38 : ∀ (r_33 : Option Nat) (x_34 : Int32) (x_35 : Int32) (hp_36 : zHp) (H : Heap) (locs : List Loc) (ls : Array Slot), P_38 r_33 x_34 x_35 hp_36 → lv_has ls 5 [(0, va_rf (some h0)), (1, .double x1), (3, .int x3), (4, .int x4)] → zHd g hp_36 H → H.size = nx → va_S (zAd g) s.heap H locs → W p l e (zrm (d + 1) 0 0) s m ([.ref h0, .double x1, .int x3, .int x4] : List Value).toArray below meth c H locs 0 0 (MQ below (zQv g Post) ([.ref h0, .double x1, .int x3, .int x4] : List Value).toArray s 0 0 (zAd g)) (F0 m 38 ls [.int x_35, .int x_34, va_rf r_33]) := by
    intro r_33 x_34 x_35 hp_36 H locs ls hw hl hH hz hS
    have hw := hP_38 r_33 x_34 x_35 hp_36 hw
    obtain ⟨a_37, n_38, f_39, er, he, hi, hA, hw⟩ := zaI_e hw
    obtain ⟨hp_40, eh⟩ : ∃ y : zHp, y = va_up hp_36 a_37 (some (.inl (g.2.1 0, n_38, .inl (va_up f_39 x_34.toNatClampNeg x_35)))) := ⟨_, rfl⟩
    have hw := hw hp_40 eh
    refine zw_iast hk hH hz hS er he hi hA eh dX5_push_38 (fun H locs hH hz hS => ?_)
    refine zr_aload_n (r := some h0) hx hb dX5_push_39 rfl (lv_at hl 0 rfl) ?_
    refine lv_dup hx hb dX5_push_40 (z_cat _) ?_
    obtain ⟨a_41, ci_42, fs_43, x_44, er, he, hc, hv, hw⟩ := zgI_e hw
    refine zw_get hk hH er he hv (fk_X5_243 hc) dX5_push_41 ?_
    refine lv_iconst (v := (1 : Int32)) hx hb dX5_push_44 (by decide) ?_
    refine lv_iadd hx hb dX5_push_45 ?_
    obtain ⟨a_45, ci_46, fs_47, hp_48, er, he, hc, hA, hkl, eh, hw⟩ := zpt_e hw
    refine zw_put hk hH hz hS er he hA hkl eh (fp_X5_243 hc) rfl rfl dX5_push_46 (fun H locs hH hz hS => ?_)
    exact zr_vret hk hr hH hz hS hw (Nat.le_of_ble_eq_true rfl) (Nat.le_of_ble_eq_true rfl) dX5_push_49
  refine lv_if_ne (tgt := 36) hx hb dX5_push_29 (by decide) (fun hc => ?_) (fun hc => ?_)
  · have hw := hw.2 hc
    refine lv_iload hx hb dX5_push_36 (lv_at hl 3 rfl) ?_
    exact hJ_38 r_28 x_32 x4 hp_24 _ _ _ hw hl hH hz hS
  · have hw := hw.1 hc
    refine lv_iconst (v := (-1 : Int32)) hx hb dX5_push_32 (by decide) ?_
    refine lv_goto (tgt := 38) hx hb dX5_push_33 (by decide) ?_
    exact hJ_38 r_28 x_32 (-1 : Int32) hp_24 _ _ _ hw hl hH hz hS
theorem fk_X5_286 {ci : Nat} (h : ci ∈ [5]) : zFk "WhatIfSheetModel" 286 ci 31 := by
  simp only [List.mem_cons, List.not_mem_nil, or_false] at h
  rcases h with rfl
  · exact ⟨RX5, TX5, 76, rfl, by decide, q2705⟩
theorem fk_X5_282 {ci : Nat} (h : ci ∈ [5]) : zFk "WhatIfSheetModel" 282 ci 30 := by
  simp only [List.mem_cons, List.not_mem_nil, or_false] at h
  rcases h with rfl
  · exact ⟨RX5, TX5, 76, rfl, by decide, q2704⟩
def wp_X5_sumUp (l : Launch) (g : zG) (d : Nat) (h0 : Nat) (x1 : Int32) (hp : zHp) (nx : Nat) (Post : zHp → Nat → Prop) : Prop :=
  (zgR hp (some h0) [5] 23 fun r_4 =>
  (zgI hp (some h0) [5] 18 fun x_8 =>
  (zaR (g.2.1 16) hp r_4 fun a_9 n_10 f_11 => vp_in x_8 n_10 ∧ ∀ r_12 : Option Nat, r_12 = f_11 x_8.toNatClampNeg →
  (zaI (g.2.1 3) hp r_12 fun a_13 n_14 f_15 => vp_in x1 n_14 ∧ ∀ x_16 : Int32, x_16 = f_15 x1.toNatClampNeg →
  ((x_16 = 0 →
  (∀ x_17 : UInt64, x_17 = FP.dconst0 →
  (∀ x_18 : UInt64, x_18 = FP.dconst0 →
  (∀ x_19 : UInt64, x_19 = FP.dconst0 →
  (zgR hp (some h0) [5] 9 fun r_23 =>
  (zaI (g.2.1 0) hp r_23 fun a_24 n_25 f_26 => vp_in x1 n_25 ∧ ∀ x_27 : Int32, x_27 = f_26 x1.toNatClampNeg →
  (∃ P_56 : UInt64 → Int32 → UInt64 → UInt64 → Int32 → Int32 → Int32 → zHp → Nat → Prop, (∀ (x_28 : UInt64) (x_29 : Int32) (x_30 : UInt64) (x_31 : UInt64) (x_32 : Int32) (x_33 : Int32) (x_34 : Int32) (hp_35 : zHp) (nx_36 : Nat), P_56 x_28 x_29 x_30 x_31 x_32 x_33 x_34 hp_35 nx_36 →
  (∃ I_61 : Nat → UInt64 → Int32 → UInt64 → UInt64 → Int32 → Int32 → Int32 → Int32 → zHp → Nat → Prop, (∃ n_338, I_61 n_338 x_28 x_29 x_30 x_31 x_32 x_33 x_34 (0 : Int32) hp_35 nx_36) ∧ ∀ (n_47 : Nat) (x_37 : UInt64) (x_38 : Int32) (x_39 : UInt64) (x_40 : UInt64) (x_41 : Int32) (x_42 : Int32) (x_43 : Int32) (x_44 : Int32) (hp_45 : zHp) (nx_46 : Nat), I_61 n_47 x_37 x_38 x_39 x_40 x_41 x_42 x_43 x_44 hp_45 nx_46 →
  (zgR hp_45 (some h0) [5] 10 fun r_51 =>
  (zaI (g.2.1 0) hp_45 r_51 fun a_52 n_53 f_54 => vp_in ((2 : Int32) * x1) n_53 ∧ ∀ x_55 : Int32, x_55 = f_54 ((2 : Int32) * x1).toNatClampNeg →
  ((x_55 ≤ x_44 →
  (zgR hp_45 (some h0) [5] 24 fun r_59 =>
  (zgI hp_45 (some h0) [5] 18 fun x_63 =>
  (zaR (g.2.1 15) hp_45 r_59 fun a_64 n_65 f_66 => vp_in x_63 n_65 ∧ ∀ r_67 : Option Nat, r_67 = f_66 x_63.toNatClampNeg →
  (zgR hp_45 (some h0) [5] 25 fun r_71 =>
  (zgI hp_45 (some h0) [5] 18 fun x_75 =>
  (zaR (g.2.1 14) hp_45 r_71 fun a_76 n_77 f_78 => vp_in x_75 n_77 ∧ ∀ r_79 : Option Nat, r_79 = f_78 x_75.toNatClampNeg →
  (zaD (g.2.1 1) hp_45 r_67 fun a_80 n_81 f_82 => vp_in ((5 : Int32) * x1) n_81 ∧ zB g ≤ a_80 ∧ ∀ hp_83 : zHp, hp_83 = va_up hp_45 a_80 (some (.inl (g.2.1 1, n_81, .inr (.inr (.inr (.inl (va_up f_82 ((5 : Int32) * x1).toNatClampNeg x_37))))))) →
  (∃ P_250 : UInt64 → Int32 → UInt64 → UInt64 → Int32 → Int32 → Int32 → (Option Nat) → (Option Nat) → (Option Nat) → Int32 → Int32 → zHp → Nat → Prop, (∀ (x_84 : UInt64) (x_85 : Int32) (x_86 : UInt64) (x_87 : UInt64) (x_88 : Int32) (x_89 : Int32) (x_90 : Int32) (r_91 : Option Nat) (r_92 : Option Nat) (r_93 : Option Nat) (x_94 : Int32) (x_95 : Int32) (hp_96 : zHp) (nx_97 : Nat), P_250 x_84 x_85 x_86 x_87 x_88 x_89 x_90 r_91 r_92 r_93 x_94 x_95 hp_96 nx_97 →
  (zaI (g.2.1 0) hp_96 r_93 fun a_98 n_99 f_100 => vp_in x_94 n_99 ∧ zB g ≤ a_98 ∧ ∀ hp_101 : zHp, hp_101 = va_up hp_96 a_98 (some (.inl (g.2.1 0, n_99, .inl (va_up f_100 x_94.toNatClampNeg x_95)))) →
  (∃ P_272 : UInt64 → Int32 → UInt64 → UInt64 → Int32 → Int32 → Int32 → (Option Nat) → (Option Nat) → (Option Nat) → Int32 → UInt64 → zHp → Nat → Prop, (∀ (x_102 : UInt64) (x_103 : Int32) (x_104 : UInt64) (x_105 : UInt64) (x_106 : Int32) (x_107 : Int32) (x_108 : Int32) (r_109 : Option Nat) (r_110 : Option Nat) (r_111 : Option Nat) (x_112 : Int32) (x_113 : UInt64) (hp_114 : zHp) (nx_115 : Nat), P_272 x_102 x_103 x_104 x_105 x_106 x_107 x_108 r_109 r_110 r_111 x_112 x_113 hp_114 nx_115 →
  (zaD (g.2.1 1) hp_114 r_111 fun a_116 n_117 f_118 => vp_in x_112 n_117 ∧ zB g ≤ a_116 ∧ ∀ hp_119 : zHp, hp_119 = va_up hp_114 a_116 (some (.inl (g.2.1 1, n_117, .inr (.inr (.inr (.inl (va_up f_118 x_112.toNatClampNeg x_113))))))) →
  (∃ P_299 : UInt64 → Int32 → UInt64 → UInt64 → Int32 → Int32 → Int32 → (Option Nat) → (Option Nat) → (Option Nat) → Int32 → Int32 → zHp → Nat → Prop, (∀ (x_120 : UInt64) (x_121 : Int32) (x_122 : UInt64) (x_123 : UInt64) (x_124 : Int32) (x_125 : Int32) (x_126 : Int32) (r_127 : Option Nat) (r_128 : Option Nat) (r_129 : Option Nat) (x_130 : Int32) (x_131 : Int32) (hp_132 : zHp) (nx_133 : Nat), P_299 x_120 x_121 x_122 x_123 x_124 x_125 x_126 r_127 r_128 r_129 x_130 x_131 hp_132 nx_133 →
  (zaI (g.2.1 0) hp_132 r_129 fun a_134 n_135 f_136 => vp_in x_130 n_135 ∧ zB g ≤ a_134 ∧ ∀ hp_137 : zHp, hp_137 = va_up hp_132 a_134 (some (.inl (g.2.1 0, n_135, .inl (va_up f_136 x_130.toNatClampNeg x_131)))) →
  (zaD (g.2.1 1) hp_137 r_127 fun a_138 n_139 f_140 => vp_in (((5 : Int32) * x1) + (2 : Int32)) n_139 ∧ zB g ≤ a_138 ∧ ∀ hp_141 : zHp, hp_141 = va_up hp_137 a_138 (some (.inl (g.2.1 1, n_139, .inr (.inr (.inr (.inl (va_up f_140 (((5 : Int32) * x1) + (2 : Int32)).toNatClampNeg x_122))))))) →
  (∃ P_327 : UInt64 → Int32 → UInt64 → UInt64 → Int32 → Int32 → Int32 → (Option Nat) → (Option Nat) → (Option Nat) → Int32 → Int32 → zHp → Nat → Prop, (∀ (x_142 : UInt64) (x_143 : Int32) (x_144 : UInt64) (x_145 : UInt64) (x_146 : Int32) (x_147 : Int32) (x_148 : Int32) (r_149 : Option Nat) (r_150 : Option Nat) (r_151 : Option Nat) (x_152 : Int32) (x_153 : Int32) (hp_154 : zHp) (nx_155 : Nat), P_327 x_142 x_143 x_144 x_145 x_146 x_147 x_148 r_149 r_150 r_151 x_152 x_153 hp_154 nx_155 →
  (zaI (g.2.1 0) hp_154 r_151 fun a_156 n_157 f_158 => vp_in x_152 n_157 ∧ zB g ≤ a_156 ∧ ∀ hp_159 : zHp, hp_159 = va_up hp_154 a_156 (some (.inl (g.2.1 0, n_157, .inl (va_up f_158 x_152.toNatClampNeg x_153)))) →
  (zaD (g.2.1 1) hp_159 r_149 fun a_160 n_161 f_162 => vp_in (((5 : Int32) * x1) + (3 : Int32)) n_161 ∧ zB g ≤ a_160 ∧ ∀ hp_163 : zHp, hp_163 = va_up hp_159 a_160 (some (.inl (g.2.1 1, n_161, .inr (.inr (.inr (.inl (va_up f_162 (((5 : Int32) * x1) + (3 : Int32)).toNatClampNeg x_145))))))) →
  (∃ P_355 : UInt64 → Int32 → UInt64 → UInt64 → Int32 → Int32 → Int32 → (Option Nat) → (Option Nat) → (Option Nat) → Int32 → Int32 → zHp → Nat → Prop, (∀ (x_164 : UInt64) (x_165 : Int32) (x_166 : UInt64) (x_167 : UInt64) (x_168 : Int32) (x_169 : Int32) (x_170 : Int32) (r_171 : Option Nat) (r_172 : Option Nat) (r_173 : Option Nat) (x_174 : Int32) (x_175 : Int32) (hp_176 : zHp) (nx_177 : Nat), P_355 x_164 x_165 x_166 x_167 x_168 x_169 x_170 r_171 r_172 r_173 x_174 x_175 hp_176 nx_177 →
  (zaI (g.2.1 0) hp_176 r_173 fun a_178 n_179 f_180 => vp_in x_174 n_179 ∧ zB g ≤ a_178 ∧ ∀ hp_181 : zHp, hp_181 = va_up hp_176 a_178 (some (.inl (g.2.1 0, n_179, .inl (va_up f_180 x_174.toNatClampNeg x_175)))) →
  (zaD (g.2.1 1) hp_181 r_171 fun a_182 n_183 f_184 => vp_in (((5 : Int32) * x1) + (4 : Int32)) n_183 ∧ zB g ≤ a_182 ∧ ∀ hp_185 : zHp, hp_185 = va_up hp_181 a_182 (some (.inl (g.2.1 1, n_183, .inr (.inr (.inr (.inl (va_up f_184 (((5 : Int32) * x1) + (4 : Int32)).toNatClampNeg (FP.i2d x_169)))))))) →
  (zaI (g.2.1 0) hp_185 r_172 fun a_186 n_187 f_188 => vp_in (((5 : Int32) * x1) + (4 : Int32)) n_187 ∧ zB g ≤ a_186 ∧ ∀ hp_189 : zHp, hp_189 = va_up hp_185 a_186 (some (.inl (g.2.1 0, n_187, .inl (va_up f_188 (((5 : Int32) * x1) + (4 : Int32)).toNatClampNeg (0 : Int32))))) →
  (zgR hp_189 (some h0) [5] 23 fun r_193 =>
  (zgI hp_189 (some h0) [5] 18 fun x_197 =>
  (zaR (g.2.1 16) hp_189 r_193 fun a_198 n_199 f_200 => vp_in x_197 n_199 ∧ ∀ r_201 : Option Nat, r_201 = f_200 x_197.toNatClampNeg →
  (zaI (g.2.1 3) hp_189 r_201 fun a_202 n_203 f_204 => vp_in x1 n_203 ∧ zB g ≤ a_202 ∧ ∀ hp_205 : zHp, hp_205 = va_up hp_189 a_202 (some (.inl (g.2.1 3, n_203, .inl (va_up f_204 x1.toNatClampNeg (vp_nar .boolean (1 : Int32)))))) →
  (Post hp_205 nx_177))))))))) ∧
  ((x_146 = 0 →
  P_355 x_142 x_143 x_144 x_145 x_146 x_147 x_148 r_149 r_150 r_150 (((5 : Int32) * x1) + (3 : Int32)) (4 : Int32) hp_163 nx_155) ∧
  (¬ x_146 = 0 →
  P_355 x_142 x_143 x_144 x_145 x_146 x_147 x_148 r_149 r_150 r_150 (((5 : Int32) * x1) + (3 : Int32)) (0 : Int32) hp_163 nx_155)))))) ∧
  ((x_124 = 0 →
  P_327 x_120 x_121 x_122 x_123 x_124 x_125 x_126 r_127 r_128 r_128 (((5 : Int32) * x1) + (2 : Int32)) (4 : Int32) hp_141 nx_133) ∧
  (¬ x_124 = 0 →
  P_327 x_120 x_121 x_122 x_123 x_124 x_125 x_126 r_127 r_128 r_128 (((5 : Int32) * x1) + (2 : Int32)) (0 : Int32) hp_141 nx_133)))))) ∧
  ((x_106 = 0 →
  P_299 x_102 x_103 x_104 x_105 x_106 x_107 x_108 r_109 r_110 r_110 (((5 : Int32) * x1) + (1 : Int32)) (4 : Int32) hp_119 nx_115) ∧
  (¬ x_106 = 0 →
  ((x_103 = 0 →
  P_299 x_102 x_103 x_104 x_105 x_106 x_107 x_108 r_109 r_110 r_110 (((5 : Int32) * x1) + (1 : Int32)) (0 : Int32) hp_119 nx_115) ∧
  (¬ x_103 = 0 →
  P_299 x_102 x_103 x_104 x_105 x_106 x_107 x_108 r_109 r_110 r_110 (((5 : Int32) * x1) + (1 : Int32)) (3 : Int32) hp_119 nx_115))))))) ∧
  ((x_88 = 0 →
  P_272 x_84 x_85 x_86 x_87 x_88 x_89 x_90 r_91 r_92 r_91 (((5 : Int32) * x1) + (1 : Int32)) FP.dconst0 hp_101 nx_97) ∧
  (¬ x_88 = 0 →
  (vf_n64 (FP.ddiv x_84 (FP.i2d x_88)) ∧ P_272 x_84 x_85 x_86 x_87 x_88 x_89 x_90 r_91 r_92 r_91 (((5 : Int32) * x1) + (1 : Int32)) (FP.ddiv x_84 (FP.i2d x_88)) hp_101 nx_97)))))) ∧
  ((x_38 = 0 →
  P_250 x_37 x_38 x_39 x_40 x_41 x_42 x_43 r_67 r_79 r_79 ((5 : Int32) * x1) (0 : Int32) hp_83 nx_46) ∧
  (¬ x_38 = 0 →
  P_250 x_37 x_38 x_39 x_40 x_41 x_42 x_43 r_67 r_79 r_79 ((5 : Int32) * x1) (3 : Int32) hp_83 nx_46))))))))))) ∧
  (¬ x_55 ≤ x_44 →
  (∃ I_77 : Nat → UInt64 → Int32 → UInt64 → UInt64 → Int32 → Int32 → Int32 → Int32 → Int32 → zHp → Nat → Prop, (∃ n_337, I_77 n_337 x_37 x_38 x_39 x_40 x_41 x_42 x_43 x_44 (0 : Int32) hp_45 nx_46) ∧ ∀ (n_217 : Nat) (x_206 : UInt64) (x_207 : Int32) (x_208 : UInt64) (x_209 : UInt64) (x_210 : Int32) (x_211 : Int32) (x_212 : Int32) (x_213 : Int32) (x_214 : Int32) (hp_215 : zHp) (nx_216 : Nat), I_77 n_217 x_206 x_207 x_208 x_209 x_210 x_211 x_212 x_213 x_214 hp_215 nx_216 →
  ((x_212 ≤ x_214 →
  (∀ x_218 : Int32, x_218 = x_213 + (1 : Int32) →
  (∃ k_219, k_219 < n_47 ∧ I_61 k_219 x_206 x_207 x_208 x_209 x_210 x_211 x_212 x_218 hp_215 nx_216))) ∧
  (¬ x_212 ≤ x_214 →
  (zo hp_215 (some h0) [5] fun a_334 ci_335 fs_336 => zMt l g yX5_tellCase cX5_tellCase 12 none d 0 0 (.ref a_334 :: [.int x1, .int x_213, .int x_214]) hp_215 nx_216 (zQv g fun hp_220 nx_221 =>
  (zgI hp_220 (some h0) [5] 31 fun x_225 =>
  (∃ P_194 : UInt64 → Int32 → UInt64 → UInt64 → Int32 → Int32 → Int32 → Int32 → Int32 → zHp → Nat → Prop, (∀ (x_226 : UInt64) (x_227 : Int32) (x_228 : UInt64) (x_229 : UInt64) (x_230 : Int32) (x_231 : Int32) (x_232 : Int32) (x_233 : Int32) (x_234 : Int32) (hp_235 : zHp) (nx_236 : Nat), P_194 x_226 x_227 x_228 x_229 x_230 x_231 x_232 x_233 x_234 hp_235 nx_236 →
  (∀ x_237 : Int32, x_237 = x_234 + (1 : Int32) →
  (∃ k_238, k_238 < n_217 ∧ I_77 k_238 x_226 x_227 x_228 x_229 x_230 x_231 x_232 x_233 x_237 hp_235 nx_236))) ∧
  ((x_225 = 0 →
  (zgD hp_220 (some h0) [5] 30 fun x_242 =>
  (vf_n64 (FP.dadd x_206 x_242) ∧ (∀ x_243 : UInt64, x_243 = FP.dadd x_206 x_242 →
  (∃ P_136 : UInt64 → Int32 → UInt64 → UInt64 → Int32 → Int32 → Int32 → Int32 → Int32 → Int32 → Int32 → zHp → Nat → Prop, (∀ (x_244 : UInt64) (x_245 : Int32) (x_246 : UInt64) (x_247 : UInt64) (x_248 : Int32) (x_249 : Int32) (x_250 : Int32) (x_251 : Int32) (x_252 : Int32) (x_253 : Int32) (x_254 : Int32) (hp_255 : zHp) (nx_256 : Nat), P_136 x_244 x_245 x_246 x_247 x_248 x_249 x_250 x_251 x_252 x_253 x_254 hp_255 nx_256 →
  (∀ x_257 : Int32, x_257 = x_253 ||| x_254 →
  (∃ P_163 : UInt64 → Int32 → UInt64 → UInt64 → Int32 → Int32 → Int32 → Int32 → Int32 → UInt64 → zHp → Nat → Prop, (∀ (x_258 : UInt64) (x_259 : Int32) (x_260 : UInt64) (x_261 : UInt64) (x_262 : Int32) (x_263 : Int32) (x_264 : Int32) (x_265 : Int32) (x_266 : Int32) (x_267 : UInt64) (hp_268 : zHp) (nx_269 : Nat), P_163 x_258 x_259 x_260 x_261 x_262 x_263 x_264 x_265 x_266 x_267 hp_268 nx_269 →
  (∃ P_189 : UInt64 → Int32 → UInt64 → UInt64 → Int32 → Int32 → Int32 → Int32 → Int32 → UInt64 → zHp → Nat → Prop, (∀ (x_270 : UInt64) (x_271 : Int32) (x_272 : UInt64) (x_273 : UInt64) (x_274 : Int32) (x_275 : Int32) (x_276 : Int32) (x_277 : Int32) (x_278 : Int32) (x_279 : UInt64) (hp_280 : zHp) (nx_281 : Nat), P_189 x_270 x_271 x_272 x_273 x_274 x_275 x_276 x_277 x_278 x_279 hp_280 nx_281 →
  (∀ x_282 : Int32, x_282 = x_274 + (1 : Int32) →
  P_194 x_270 x_271 x_272 x_279 x_282 x_275 x_276 x_277 x_278 hp_280 nx_281)) ∧
  (∃ P_180 : UInt64 → Int32 → UInt64 → UInt64 → Int32 → Int32 → Int32 → Int32 → Int32 → zHp → Nat → Prop, (∀ (x_283 : UInt64) (x_284 : Int32) (x_285 : UInt64) (x_286 : UInt64) (x_287 : Int32) (x_288 : Int32) (x_289 : Int32) (x_290 : Int32) (x_291 : Int32) (hp_292 : zHp) (nx_293 : Nat), P_180 x_283 x_284 x_285 x_286 x_287 x_288 x_289 x_290 x_291 hp_292 nx_293 →
  (zgD hp_292 (some h0) [5] 30 fun x_297 =>
  P_189 x_283 x_284 x_285 x_286 x_287 x_288 x_289 x_290 x_291 x_297 hp_292 nx_293)) ∧
  ((x_262 = 0 →
  P_180 x_258 x_259 x_267 x_261 x_262 x_263 x_264 x_265 x_266 hp_268 nx_269) ∧
  (¬ x_262 = 0 →
  (zgD hp_268 (some h0) [5] 30 fun x_301 =>
  (((Op.cmpValue (FP.dcmp x_301 x_261) .l) ≤ 0 →
  P_189 x_258 x_259 x_267 x_261 x_262 x_263 x_264 x_265 x_266 x_261 hp_268 nx_269) ∧
  (¬ (Op.cmpValue (FP.dcmp x_301 x_261) .l) ≤ 0 →
  P_180 x_258 x_259 x_267 x_261 x_262 x_263 x_264 x_265 x_266 hp_268 nx_269)))))))) ∧
  (∃ P_154 : UInt64 → Int32 → UInt64 → UInt64 → Int32 → Int32 → Int32 → Int32 → Int32 → zHp → Nat → Prop, (∀ (x_302 : UInt64) (x_303 : Int32) (x_304 : UInt64) (x_305 : UInt64) (x_306 : Int32) (x_307 : Int32) (x_308 : Int32) (x_309 : Int32) (x_310 : Int32) (hp_311 : zHp) (nx_312 : Nat), P_154 x_302 x_303 x_304 x_305 x_306 x_307 x_308 x_309 x_310 hp_311 nx_312 →
  (zgD hp_311 (some h0) [5] 30 fun x_316 =>
  P_163 x_302 x_303 x_304 x_305 x_306 x_307 x_308 x_309 x_310 x_316 hp_311 nx_312)) ∧
  ((x_248 = 0 →
  P_154 x_244 x_257 x_246 x_247 x_248 x_249 x_250 x_251 x_252 hp_255 nx_256) ∧
  (¬ x_248 = 0 →
  (zgD hp_255 (some h0) [5] 30 fun x_320 =>
  ((0 ≤ (Op.cmpValue (FP.dcmp x_320 x_246) .g) →
  P_163 x_244 x_257 x_246 x_247 x_248 x_249 x_250 x_251 x_252 x_246 hp_255 nx_256) ∧
  (¬ 0 ≤ (Op.cmpValue (FP.dcmp x_320 x_246) .g) →
  P_154 x_244 x_257 x_246 x_247 x_248 x_249 x_250 x_251 x_252 hp_255 nx_256))))))))) ∧
  (∃ P_131 : UInt64 → Int32 → UInt64 → UInt64 → Int32 → Int32 → Int32 → Int32 → Int32 → Int32 → zHp → Nat → Prop, (∀ (x_321 : UInt64) (x_322 : Int32) (x_323 : UInt64) (x_324 : UInt64) (x_325 : Int32) (x_326 : Int32) (x_327 : Int32) (x_328 : Int32) (x_329 : Int32) (x_330 : Int32) (hp_331 : zHp) (nx_332 : Nat), P_131 x_321 x_322 x_323 x_324 x_325 x_326 x_327 x_328 x_329 x_330 hp_331 nx_332 →
  P_136 x_321 x_322 x_323 x_324 x_325 x_326 x_327 x_328 x_329 x_330 (1 : Int32) hp_331 nx_332) ∧
  ((0 < (Op.cmpValue (FP.dcmp x_243 (4786511204640096256 : UInt64)) .l) →
  P_131 x_243 x_207 x_208 x_209 x_210 x_211 x_212 x_213 x_214 x_207 hp_220 nx_221) ∧
  (¬ 0 < (Op.cmpValue (FP.dcmp x_243 (4786511204640096256 : UInt64)) .l) →
  ((0 ≤ (Op.cmpValue (FP.dcmp x_243 (14009883241494872064 : UInt64)) .g) →
  P_136 x_243 x_207 x_208 x_209 x_210 x_211 x_212 x_213 x_214 x_207 (0 : Int32) hp_220 nx_221) ∧
  (¬ 0 ≤ (Op.cmpValue (FP.dcmp x_243 (14009883241494872064 : UInt64)) .g) →
  P_131 x_243 x_207 x_208 x_209 x_210 x_211 x_212 x_213 x_214 x_207 hp_220 nx_221)))))))))) ∧
  (¬ x_225 = 0 →
  (∀ x_333 : Int32, x_333 = x_211 + (1 : Int32) →
  P_194 x_206 x_207 x_208 x_209 x_210 x_333 x_212 x_213 x_214 hp_220 nx_221)))))))))))))))) ∧
  ((x_27 = (-1 : Int32) →
  P_56 x_17 (0 : Int32) x_18 x_19 (0 : Int32) (0 : Int32) (1 : Int32) hp nx) ∧
  (¬ x_27 = (-1 : Int32) →
  (zgR hp (some h0) [5] 10 fun r_342 =>
  (zaI (g.2.1 0) hp r_342 fun a_343 n_344 f_345 => vp_in (((2 : Int32) * x1) + (1 : Int32)) n_344 ∧ ∀ x_346 : Int32, x_346 = f_345 (((2 : Int32) * x1) + (1 : Int32)).toNatClampNeg →
  P_56 x_17 (0 : Int32) x_18 x_19 (0 : Int32) (0 : Int32) x_346 hp nx))))))))))) ∧
  (¬ x_16 = 0 →
  (Post hp nx)))))))
set_option maxHeartbeats 40000000 in
theorem met_X5_sumUp {l : Launch} {g : zG} {d : Nat} {h0 : Nat} {x1 : Int32} {hp : zHp} {nx : Nat} {Post : zHp → Nat → Prop} (hw : wp_X5_sumUp l g d h0 x1 hp nx Post) : zMt l g yX5_sumUp cX5_sumUp 14 none (d + 1) 0 0 [.ref h0, .int x1] hp nx (zQv g Post) := by
  refine z_start (by decide) (Nat.le_of_ble_eq_true rfl) ?_
  intro p e s m below meth c hk hr hin hH hz ls hl
  have hx := hk.1.1
  have hb := hk.1.2.1
  have hown := hk.1.2.2.2.1
  have hts := hk.1.2.2.2.2
  have hS : va_S (zAd g) s.heap s.heap [] := va_S.rf
  have hl : lv_has ls 14 [(0, va_rf (some h0)), (1, .int x1)] := hl
  unfold wp_X5_sumUp at hw
  refine zr_aload_n (r := some h0) hx hb dX5_sumUp_0 rfl (lv_at hl 0 rfl) ?_
  obtain ⟨a_1, ci_2, fs_3, r_4, er, he, hc, hv, hw⟩ := zgR_e hw
  refine zw_get hk hH er he hv (fk_X5_84 hc) dX5_sumUp_1 ?_
  refine zr_aload_n (r := some h0) hx hb dX5_sumUp_4 rfl (lv_at hl 0 rfl) ?_
  obtain ⟨a_5, ci_6, fs_7, x_8, er, he, hc, hv, hw⟩ := zgI_e hw
  refine zw_get hk hH er he hv (fk_X5_247 hc) dX5_sumUp_5 ?_
  obtain ⟨a_9, n_10, f_11, er, he, hi, hw⟩ := zaR_e hw
  have hw := hw _ rfl
  refine zw_aald hk hH 16 er he rfl rfl hi dX5_sumUp_8 ?_
  generalize f_11 x_8.toNatClampNeg = r_12 at hw ⊢
  refine lv_iload_n hx hb dX5_sumUp_9 rfl (lv_at hl 1 rfl) ?_
  obtain ⟨a_13, n_14, f_15, er, he, hi, hw⟩ := zaI_e hw
  have hw := hw _ rfl
  refine zw_zald hk hH er he hi dX5_sumUp_10 ?_
  generalize f_15 x1.toNatClampNeg = x_16 at hw ⊢
  refine lv_if_eq (tgt := 15) hx hb dX5_sumUp_11 (by decide) (fun hc => ?_) (fun hc => ?_)
  · have hw := hw.1 hc
    refine lv_dconst0 hx hb dX5_sumUp_15 ?_
    refine lv_topd (fun x_17 ex_17 => ?_)
    have hw := hw x_17 ex_17
    refine lv_dstore_n (i := 2) (lv' := [(2, .double x_17), (0, va_rf (some h0)), (1, .int x1)]) hx hb dX5_sumUp_16 rfl hl (by decide) (by first | rfl | simp [List.filter_cons, z_cat, z_catI, z_catJ, z_catF, z_catD]) (fun ls hl => ?_)
    refine lv_iconst (v := (0 : Int32)) hx hb dX5_sumUp_17 (by decide) ?_
    refine lv_istore (lv' := [(4, .int (0 : Int32)), (2, .double x_17), (0, va_rf (some h0)), (1, .int x1)]) hx hb dX5_sumUp_18 hl (by decide) (by first | rfl | simp [List.filter_cons, z_cat, z_catI, z_catJ, z_catF, z_catD]) (fun ls hl => ?_)
    refine lv_dconst0 hx hb dX5_sumUp_20 ?_
    refine lv_topd (fun x_18 ex_18 => ?_)
    have hw := hw x_18 ex_18
    refine lv_dstore (lv' := [(5, .double x_18), (4, .int (0 : Int32)), (2, .double x_17), (0, va_rf (some h0)), (1, .int x1)]) hx hb dX5_sumUp_21 hl (by decide) (by first | rfl | simp [List.filter_cons, z_cat, z_catI, z_catJ, z_catF, z_catD]) (fun ls hl => ?_)
    refine lv_dconst0 hx hb dX5_sumUp_23 ?_
    refine lv_topd (fun x_19 ex_19 => ?_)
    have hw := hw x_19 ex_19
    refine lv_dstore (lv' := [(7, .double x_19), (5, .double x_18), (4, .int (0 : Int32)), (2, .double x_17), (0, va_rf (some h0)), (1, .int x1)]) hx hb dX5_sumUp_24 hl (by decide) (by first | rfl | simp [List.filter_cons, z_cat, z_catI, z_catJ, z_catF, z_catD]) (fun ls hl => ?_)
    refine lv_iconst (v := (0 : Int32)) hx hb dX5_sumUp_26 (by decide) ?_
    refine lv_istore (lv' := [(9, .int (0 : Int32)), (7, .double x_19), (5, .double x_18), (4, .int (0 : Int32)), (2, .double x_17), (0, va_rf (some h0)), (1, .int x1)]) hx hb dX5_sumUp_27 hl (by decide) (by first | rfl | simp [List.filter_cons, z_cat, z_catI, z_catJ, z_catF, z_catD]) (fun ls hl => ?_)
    refine lv_iconst (v := (0 : Int32)) hx hb dX5_sumUp_29 (by decide) ?_
    refine lv_istore (lv' := [(10, .int (0 : Int32)), (9, .int (0 : Int32)), (7, .double x_19), (5, .double x_18), (4, .int (0 : Int32)), (2, .double x_17), (0, va_rf (some h0)), (1, .int x1)]) hx hb dX5_sumUp_30 hl (by decide) (by first | rfl | simp [List.filter_cons, z_cat, z_catI, z_catJ, z_catF, z_catD]) (fun ls hl => ?_)
    refine zr_aload_n (r := some h0) hx hb dX5_sumUp_32 rfl (lv_at hl 6 rfl) ?_
    obtain ⟨a_20, ci_21, fs_22, r_23, er, he, hc, hv, hw⟩ := zgR_e hw
    refine zw_get hk hH er he hv (fk_X5_43 hc) dX5_sumUp_33 ?_
    refine lv_iload_n hx hb dX5_sumUp_36 rfl (lv_at hl 7 rfl) ?_
    obtain ⟨a_24, n_25, f_26, er, he, hi, hw⟩ := zaI_e hw
    have hw := hw _ rfl
    refine zw_iald hk hH er he hi dX5_sumUp_37 ?_
    generalize f_26 x1.toNatClampNeg = x_27 at hw ⊢
    refine lv_iconst (v := (-1 : Int32)) hx hb dX5_sumUp_38 (by decide) ?_
    obtain ⟨P_56, hP_56, hw⟩ := hw
    have hJ_56 : ∀ (x_28 : UInt64) (x_29 : Int32) (x_30 : UInt64) (x_31 : UInt64) (x_32 : Int32) (x_33 : Int32) (x_34 : Int32) (hp_35 : zHp) (nx_36 : Nat) (H : Heap) (locs : List Loc) (ls : Array Slot), P_56 x_28 x_29 x_30 x_31 x_32 x_33 x_34 hp_35 nx_36 → lv_has ls 14 [(0, va_rf (some h0)), (1, .int x1), (2, .double x_28), (4, .int x_29), (5, .double x_30), (7, .double x_31), (9, .int x_32), (10, .int x_33)] → zHd g hp_35 H → H.size = nx_36 → va_S (zAd g) s.heap H locs → W p l e (zrm (d + 1) 0 0) s m ([.ref h0, .int x1] : List Value).toArray below meth c H locs 0 0 (MQ below (zQv g Post) ([.ref h0, .int x1] : List Value).toArray s 0 0 (zAd g)) (F0 m 56 ls [.int x_34]) := by
      intro x_28 x_29 x_30 x_31 x_32 x_33 x_34 hp_35 nx_36 H locs ls hw hl hH hz hS
      have hw := hP_56 x_28 x_29 x_30 x_31 x_32 x_33 x_34 hp_35 nx_36 hw
      refine lv_istore (lv' := [(11, .int x_34), (0, va_rf (some h0)), (1, .int x1), (2, .double x_28), (4, .int x_29), (5, .double x_30), (7, .double x_31), (9, .int x_32), (10, .int x_33)]) hx hb dX5_sumUp_56 hl (by decide) (by first | rfl | simp [List.filter_cons, z_cat, z_catI, z_catJ, z_catF, z_catD]) (fun ls hl => ?_)
      refine lv_iconst (v := (0 : Int32)) hx hb dX5_sumUp_58 (by decide) ?_
      refine lv_istore (lv' := [(12, .int (0 : Int32)), (11, .int x_34), (0, va_rf (some h0)), (1, .int x1), (2, .double x_28), (4, .int x_29), (5, .double x_30), (7, .double x_31), (9, .int x_32), (10, .int x_33)]) hx hb dX5_sumUp_59 hl (by decide) (by first | rfl | simp [List.filter_cons, z_cat, z_catI, z_catJ, z_catF, z_catD]) (fun ls hl => ?_)
      obtain ⟨I_61, ⟨n_338, hI⟩, hB_61⟩ := hw
      have hL_61 : ∀ (n_47 : Nat) (x_37 : UInt64) (x_38 : Int32) (x_39 : UInt64) (x_40 : UInt64) (x_41 : Int32) (x_42 : Int32) (x_43 : Int32) (x_44 : Int32) (hp_45 : zHp) (nx_46 : Nat) (H : Heap) (locs : List Loc) (ls : Array Slot), I_61 n_47 x_37 x_38 x_39 x_40 x_41 x_42 x_43 x_44 hp_45 nx_46 → lv_has ls 14 [(0, va_rf (some h0)), (1, .int x1), (2, .double x_37), (4, .int x_38), (5, .double x_39), (7, .double x_40), (9, .int x_41), (10, .int x_42), (11, .int x_43), (12, .int x_44)] → zHd g hp_45 H → H.size = nx_46 → va_S (zAd g) s.heap H locs → W p l e (zrm (d + 1) 0 0) s m ([.ref h0, .int x1] : List Value).toArray below meth c H locs 0 0 (MQ below (zQv g Post) ([.ref h0, .int x1] : List Value).toArray s 0 0 (zAd g)) (F0 m 61 ls []) := by
        intro n_47
        induction n_47 using Nat.strongRecOn with
        | _ n_47 ih_61 =>
          intro x_37 x_38 x_39 x_40 x_41 x_42 x_43 x_44 hp_45 nx_46 H locs ls hw hl hH hz hS
          have hw := hB_61 n_47 x_37 x_38 x_39 x_40 x_41 x_42 x_43 x_44 hp_45 nx_46 hw
          refine lv_iload hx hb dX5_sumUp_61 (lv_at hl 9 rfl) ?_
          refine zr_aload_n (r := some h0) hx hb dX5_sumUp_63 rfl (lv_at hl 0 rfl) ?_
          obtain ⟨a_48, ci_49, fs_50, r_51, er, he, hc, hv, hw⟩ := zgR_e hw
          refine zw_get hk hH er he hv (fk_X5_46 hc) dX5_sumUp_64 ?_
          refine lv_iconst (v := (2 : Int32)) hx hb dX5_sumUp_67 (by decide) ?_
          refine lv_iload_n hx hb dX5_sumUp_68 rfl (lv_at hl 1 rfl) ?_
          refine lv_imul hx hb dX5_sumUp_69 ?_
          obtain ⟨a_52, n_53, f_54, er, he, hi, hw⟩ := zaI_e hw
          have hw := hw _ rfl
          refine zw_iald hk hH er he hi dX5_sumUp_70 ?_
          generalize f_54 ((2 : Int32) * x1).toNatClampNeg = x_55 at hw ⊢
          refine lv_icmp_ge (tgt := 206) hx hb dX5_sumUp_71 (by decide) (fun hc => ?_) (fun hc => ?_)
          · have hw := hw.1 hc
            refine zr_aload_n (r := some h0) hx hb dX5_sumUp_206 rfl (lv_at hl 0 rfl) ?_
            obtain ⟨a_56, ci_57, fs_58, r_59, er, he, hc, hv, hw⟩ := zgR_e hw
            refine zw_get hk hH er he hv (fk_X5_87 hc) dX5_sumUp_207 ?_
            refine zr_aload_n (r := some h0) hx hb dX5_sumUp_210 rfl (lv_at hl 0 rfl) ?_
            obtain ⟨a_60, ci_61, fs_62, x_63, er, he, hc, hv, hw⟩ := zgI_e hw
            refine zw_get hk hH er he hv (fk_X5_247 hc) dX5_sumUp_211 ?_
            obtain ⟨a_64, n_65, f_66, er, he, hi, hw⟩ := zaR_e hw
            have hw := hw _ rfl
            refine zw_aald hk hH 15 er he rfl rfl hi dX5_sumUp_214 ?_
            generalize f_66 x_63.toNatClampNeg = r_67 at hw ⊢
            refine zr_astore (r := r_67) (lv' := [(12, va_rf r_67), (0, va_rf (some h0)), (1, .int x1), (2, .double x_37), (4, .int x_38), (5, .double x_39), (7, .double x_40), (9, .int x_41), (10, .int x_42), (11, .int x_43)]) hx hb dX5_sumUp_215 hl (by decide) (by first | rfl | simp [List.filter_cons, z_cat, z_catI, z_catJ, z_catF, z_catD]) (fun ls hl => ?_)
            refine zr_aload_n (r := some h0) hx hb dX5_sumUp_217 rfl (lv_at hl 1 rfl) ?_
            obtain ⟨a_68, ci_69, fs_70, r_71, er, he, hc, hv, hw⟩ := zgR_e hw
            refine zw_get hk hH er he hv (fk_X5_90 hc) dX5_sumUp_218 ?_
            refine zr_aload_n (r := some h0) hx hb dX5_sumUp_221 rfl (lv_at hl 1 rfl) ?_
            obtain ⟨a_72, ci_73, fs_74, x_75, er, he, hc, hv, hw⟩ := zgI_e hw
            refine zw_get hk hH er he hv (fk_X5_247 hc) dX5_sumUp_222 ?_
            obtain ⟨a_76, n_77, f_78, er, he, hi, hw⟩ := zaR_e hw
            have hw := hw _ rfl
            refine zw_aald hk hH 14 er he rfl rfl hi dX5_sumUp_225 ?_
            generalize f_78 x_75.toNatClampNeg = r_79 at hw ⊢
            refine zr_astore (r := r_79) (lv' := [(13, va_rf r_79), (12, va_rf r_67), (0, va_rf (some h0)), (1, .int x1), (2, .double x_37), (4, .int x_38), (5, .double x_39), (7, .double x_40), (9, .int x_41), (10, .int x_42), (11, .int x_43)]) hx hb dX5_sumUp_226 hl (by decide) (by first | rfl | simp [List.filter_cons, z_cat, z_catI, z_catJ, z_catF, z_catD]) (fun ls hl => ?_)
            refine zr_aload (r := r_67) hx hb dX5_sumUp_228 (lv_at hl 1 rfl) ?_
            refine lv_iconst (v := (5 : Int32)) hx hb dX5_sumUp_230 (by decide) ?_
            refine lv_iload_n hx hb dX5_sumUp_231 rfl (lv_at hl 3 rfl) ?_
            refine lv_imul hx hb dX5_sumUp_232 ?_
            refine lv_dload_n hx hb dX5_sumUp_233 rfl (lv_at hl 4 rfl) ?_
            obtain ⟨a_80, n_81, f_82, er, he, hi, hA, hw⟩ := zaD_e hw
            obtain ⟨hp_83, eh⟩ : ∃ y : zHp, y = va_up hp_45 a_80 (some (.inl (g.2.1 1, n_81, .inr (.inr (.inr (.inl (va_up f_82 ((5 : Int32) * x1).toNatClampNeg x_37))))))) := ⟨_, rfl⟩
            have hw := hw hp_83 eh
            refine zw_dast hk hH hz hS er he hi hA eh dX5_sumUp_234 (fun H locs hH hz hS => ?_)
            refine zr_aload (r := r_79) hx hb dX5_sumUp_235 (lv_at hl 0 rfl) ?_
            refine lv_iconst (v := (5 : Int32)) hx hb dX5_sumUp_237 (by decide) ?_
            refine lv_iload_n hx hb dX5_sumUp_238 rfl (lv_at hl 3 rfl) ?_
            refine lv_imul hx hb dX5_sumUp_239 ?_
            refine lv_iload hx hb dX5_sumUp_240 (lv_at hl 5 rfl) ?_
            obtain ⟨P_250, hP_250, hw⟩ := hw
            have hJ_250 : ∀ (x_84 : UInt64) (x_85 : Int32) (x_86 : UInt64) (x_87 : UInt64) (x_88 : Int32) (x_89 : Int32) (x_90 : Int32) (r_91 : Option Nat) (r_92 : Option Nat) (r_93 : Option Nat) (x_94 : Int32) (x_95 : Int32) (hp_96 : zHp) (nx_97 : Nat) (H : Heap) (locs : List Loc) (ls : Array Slot), P_250 x_84 x_85 x_86 x_87 x_88 x_89 x_90 r_91 r_92 r_93 x_94 x_95 hp_96 nx_97 → lv_has ls 14 [(0, va_rf (some h0)), (1, .int x1), (2, .double x_84), (4, .int x_85), (5, .double x_86), (7, .double x_87), (9, .int x_88), (10, .int x_89), (11, .int x_90), (12, va_rf r_91), (13, va_rf r_92)] → zHd g hp_96 H → H.size = nx_97 → va_S (zAd g) s.heap H locs → W p l e (zrm (d + 1) 0 0) s m ([.ref h0, .int x1] : List Value).toArray below meth c H locs 0 0 (MQ below (zQv g Post) ([.ref h0, .int x1] : List Value).toArray s 0 0 (zAd g)) (F0 m 250 ls [.int x_95, .int x_94, va_rf r_93]) := by
              intro x_84 x_85 x_86 x_87 x_88 x_89 x_90 r_91 r_92 r_93 x_94 x_95 hp_96 nx_97 H locs ls hw hl hH hz hS
              have hw := hP_250 x_84 x_85 x_86 x_87 x_88 x_89 x_90 r_91 r_92 r_93 x_94 x_95 hp_96 nx_97 hw
              obtain ⟨a_98, n_99, f_100, er, he, hi, hA, hw⟩ := zaI_e hw
              obtain ⟨hp_101, eh⟩ : ∃ y : zHp, y = va_up hp_96 a_98 (some (.inl (g.2.1 0, n_99, .inl (va_up f_100 x_94.toNatClampNeg x_95)))) := ⟨_, rfl⟩
              have hw := hw hp_101 eh
              refine zw_iast hk hH hz hS er he hi hA eh dX5_sumUp_250 (fun H locs hH hz hS => ?_)
              refine zr_aload (r := r_91) hx hb dX5_sumUp_251 (lv_at hl 9 rfl) ?_
              refine lv_iconst (v := (5 : Int32)) hx hb dX5_sumUp_253 (by decide) ?_
              refine lv_iload_n hx hb dX5_sumUp_254 rfl (lv_at hl 1 rfl) ?_
              refine lv_imul hx hb dX5_sumUp_255 ?_
              refine lv_iconst (v := (1 : Int32)) hx hb dX5_sumUp_256 (by decide) ?_
              refine lv_iadd hx hb dX5_sumUp_257 ?_
              refine lv_iload hx hb dX5_sumUp_258 (lv_at hl 6 rfl) ?_
              obtain ⟨P_272, hP_272, hw⟩ := hw
              have hJ_272 : ∀ (x_102 : UInt64) (x_103 : Int32) (x_104 : UInt64) (x_105 : UInt64) (x_106 : Int32) (x_107 : Int32) (x_108 : Int32) (r_109 : Option Nat) (r_110 : Option Nat) (r_111 : Option Nat) (x_112 : Int32) (x_113 : UInt64) (hp_114 : zHp) (nx_115 : Nat) (H : Heap) (locs : List Loc) (ls : Array Slot), P_272 x_102 x_103 x_104 x_105 x_106 x_107 x_108 r_109 r_110 r_111 x_112 x_113 hp_114 nx_115 → lv_has ls 14 [(0, va_rf (some h0)), (1, .int x1), (2, .double x_102), (4, .int x_103), (5, .double x_104), (7, .double x_105), (9, .int x_106), (10, .int x_107), (11, .int x_108), (12, va_rf r_109), (13, va_rf r_110)] → zHd g hp_114 H → H.size = nx_115 → va_S (zAd g) s.heap H locs → W p l e (zrm (d + 1) 0 0) s m ([.ref h0, .int x1] : List Value).toArray below meth c H locs 0 0 (MQ below (zQv g Post) ([.ref h0, .int x1] : List Value).toArray s 0 0 (zAd g)) (F0 m 272 ls [.double x_113, .int x_112, va_rf r_111]) := by
                intro x_102 x_103 x_104 x_105 x_106 x_107 x_108 r_109 r_110 r_111 x_112 x_113 hp_114 nx_115 H locs ls hw hl hH hz hS
                have hw := hP_272 x_102 x_103 x_104 x_105 x_106 x_107 x_108 r_109 r_110 r_111 x_112 x_113 hp_114 nx_115 hw
                obtain ⟨a_116, n_117, f_118, er, he, hi, hA, hw⟩ := zaD_e hw
                obtain ⟨hp_119, eh⟩ : ∃ y : zHp, y = va_up hp_114 a_116 (some (.inl (g.2.1 1, n_117, .inr (.inr (.inr (.inl (va_up f_118 x_112.toNatClampNeg x_113))))))) := ⟨_, rfl⟩
                have hw := hw hp_119 eh
                refine zw_dast hk hH hz hS er he hi hA eh dX5_sumUp_272 (fun H locs hH hz hS => ?_)
                refine zr_aload (r := r_110) hx hb dX5_sumUp_273 (lv_at hl 10 rfl) ?_
                refine lv_iconst (v := (5 : Int32)) hx hb dX5_sumUp_275 (by decide) ?_
                refine lv_iload_n hx hb dX5_sumUp_276 rfl (lv_at hl 1 rfl) ?_
                refine lv_imul hx hb dX5_sumUp_277 ?_
                refine lv_iconst (v := (1 : Int32)) hx hb dX5_sumUp_278 (by decide) ?_
                refine lv_iadd hx hb dX5_sumUp_279 ?_
                refine lv_iload hx hb dX5_sumUp_280 (lv_at hl 6 rfl) ?_
                obtain ⟨P_299, hP_299, hw⟩ := hw
                have hJ_299 : ∀ (x_120 : UInt64) (x_121 : Int32) (x_122 : UInt64) (x_123 : UInt64) (x_124 : Int32) (x_125 : Int32) (x_126 : Int32) (r_127 : Option Nat) (r_128 : Option Nat) (r_129 : Option Nat) (x_130 : Int32) (x_131 : Int32) (hp_132 : zHp) (nx_133 : Nat) (H : Heap) (locs : List Loc) (ls : Array Slot), P_299 x_120 x_121 x_122 x_123 x_124 x_125 x_126 r_127 r_128 r_129 x_130 x_131 hp_132 nx_133 → lv_has ls 14 [(0, va_rf (some h0)), (1, .int x1), (2, .double x_120), (4, .int x_121), (5, .double x_122), (7, .double x_123), (9, .int x_124), (10, .int x_125), (11, .int x_126), (12, va_rf r_127), (13, va_rf r_128)] → zHd g hp_132 H → H.size = nx_133 → va_S (zAd g) s.heap H locs → W p l e (zrm (d + 1) 0 0) s m ([.ref h0, .int x1] : List Value).toArray below meth c H locs 0 0 (MQ below (zQv g Post) ([.ref h0, .int x1] : List Value).toArray s 0 0 (zAd g)) (F0 m 299 ls [.int x_131, .int x_130, va_rf r_129]) := by
                  intro x_120 x_121 x_122 x_123 x_124 x_125 x_126 r_127 r_128 r_129 x_130 x_131 hp_132 nx_133 H locs ls hw hl hH hz hS
                  have hw := hP_299 x_120 x_121 x_122 x_123 x_124 x_125 x_126 r_127 r_128 r_129 x_130 x_131 hp_132 nx_133 hw
                  obtain ⟨a_134, n_135, f_136, er, he, hi, hA, hw⟩ := zaI_e hw
                  obtain ⟨hp_137, eh⟩ : ∃ y : zHp, y = va_up hp_132 a_134 (some (.inl (g.2.1 0, n_135, .inl (va_up f_136 x_130.toNatClampNeg x_131)))) := ⟨_, rfl⟩
                  have hw := hw hp_137 eh
                  refine zw_iast hk hH hz hS er he hi hA eh dX5_sumUp_299 (fun H locs hH hz hS => ?_)
                  refine zr_aload (r := r_127) hx hb dX5_sumUp_300 (lv_at hl 9 rfl) ?_
                  refine lv_iconst (v := (5 : Int32)) hx hb dX5_sumUp_302 (by decide) ?_
                  refine lv_iload_n hx hb dX5_sumUp_303 rfl (lv_at hl 1 rfl) ?_
                  refine lv_imul hx hb dX5_sumUp_304 ?_
                  refine lv_iconst (v := (2 : Int32)) hx hb dX5_sumUp_305 (by decide) ?_
                  refine lv_iadd hx hb dX5_sumUp_306 ?_
                  refine lv_dload hx hb dX5_sumUp_307 (lv_at hl 4 rfl) ?_
                  obtain ⟨a_138, n_139, f_140, er, he, hi, hA, hw⟩ := zaD_e hw
                  obtain ⟨hp_141, eh⟩ : ∃ y : zHp, y = va_up hp_137 a_138 (some (.inl (g.2.1 1, n_139, .inr (.inr (.inr (.inl (va_up f_140 (((5 : Int32) * x1) + (2 : Int32)).toNatClampNeg x_122))))))) := ⟨_, rfl⟩
                  have hw := hw hp_141 eh
                  refine zw_dast hk hH hz hS er he hi hA eh dX5_sumUp_309 (fun H locs hH hz hS => ?_)
                  refine zr_aload (r := r_128) hx hb dX5_sumUp_310 (lv_at hl 10 rfl) ?_
                  refine lv_iconst (v := (5 : Int32)) hx hb dX5_sumUp_312 (by decide) ?_
                  refine lv_iload_n hx hb dX5_sumUp_313 rfl (lv_at hl 1 rfl) ?_
                  refine lv_imul hx hb dX5_sumUp_314 ?_
                  refine lv_iconst (v := (2 : Int32)) hx hb dX5_sumUp_315 (by decide) ?_
                  refine lv_iadd hx hb dX5_sumUp_316 ?_
                  refine lv_iload hx hb dX5_sumUp_317 (lv_at hl 6 rfl) ?_
                  obtain ⟨P_327, hP_327, hw⟩ := hw
                  have hJ_327 : ∀ (x_142 : UInt64) (x_143 : Int32) (x_144 : UInt64) (x_145 : UInt64) (x_146 : Int32) (x_147 : Int32) (x_148 : Int32) (r_149 : Option Nat) (r_150 : Option Nat) (r_151 : Option Nat) (x_152 : Int32) (x_153 : Int32) (hp_154 : zHp) (nx_155 : Nat) (H : Heap) (locs : List Loc) (ls : Array Slot), P_327 x_142 x_143 x_144 x_145 x_146 x_147 x_148 r_149 r_150 r_151 x_152 x_153 hp_154 nx_155 → lv_has ls 14 [(0, va_rf (some h0)), (1, .int x1), (2, .double x_142), (4, .int x_143), (5, .double x_144), (7, .double x_145), (9, .int x_146), (10, .int x_147), (11, .int x_148), (12, va_rf r_149), (13, va_rf r_150)] → zHd g hp_154 H → H.size = nx_155 → va_S (zAd g) s.heap H locs → W p l e (zrm (d + 1) 0 0) s m ([.ref h0, .int x1] : List Value).toArray below meth c H locs 0 0 (MQ below (zQv g Post) ([.ref h0, .int x1] : List Value).toArray s 0 0 (zAd g)) (F0 m 327 ls [.int x_153, .int x_152, va_rf r_151]) := by
                    intro x_142 x_143 x_144 x_145 x_146 x_147 x_148 r_149 r_150 r_151 x_152 x_153 hp_154 nx_155 H locs ls hw hl hH hz hS
                    have hw := hP_327 x_142 x_143 x_144 x_145 x_146 x_147 x_148 r_149 r_150 r_151 x_152 x_153 hp_154 nx_155 hw
                    obtain ⟨a_156, n_157, f_158, er, he, hi, hA, hw⟩ := zaI_e hw
                    obtain ⟨hp_159, eh⟩ : ∃ y : zHp, y = va_up hp_154 a_156 (some (.inl (g.2.1 0, n_157, .inl (va_up f_158 x_152.toNatClampNeg x_153)))) := ⟨_, rfl⟩
                    have hw := hw hp_159 eh
                    refine zw_iast hk hH hz hS er he hi hA eh dX5_sumUp_327 (fun H locs hH hz hS => ?_)
                    refine zr_aload (r := r_149) hx hb dX5_sumUp_328 (lv_at hl 9 rfl) ?_
                    refine lv_iconst (v := (5 : Int32)) hx hb dX5_sumUp_330 (by decide) ?_
                    refine lv_iload_n hx hb dX5_sumUp_331 rfl (lv_at hl 1 rfl) ?_
                    refine lv_imul hx hb dX5_sumUp_332 ?_
                    refine lv_iconst (v := (3 : Int32)) hx hb dX5_sumUp_333 (by decide) ?_
                    refine lv_iadd hx hb dX5_sumUp_334 ?_
                    refine lv_dload hx hb dX5_sumUp_335 (lv_at hl 5 rfl) ?_
                    obtain ⟨a_160, n_161, f_162, er, he, hi, hA, hw⟩ := zaD_e hw
                    obtain ⟨hp_163, eh⟩ : ∃ y : zHp, y = va_up hp_159 a_160 (some (.inl (g.2.1 1, n_161, .inr (.inr (.inr (.inl (va_up f_162 (((5 : Int32) * x1) + (3 : Int32)).toNatClampNeg x_145))))))) := ⟨_, rfl⟩
                    have hw := hw hp_163 eh
                    refine zw_dast hk hH hz hS er he hi hA eh dX5_sumUp_337 (fun H locs hH hz hS => ?_)
                    refine zr_aload (r := r_150) hx hb dX5_sumUp_338 (lv_at hl 10 rfl) ?_
                    refine lv_iconst (v := (5 : Int32)) hx hb dX5_sumUp_340 (by decide) ?_
                    refine lv_iload_n hx hb dX5_sumUp_341 rfl (lv_at hl 1 rfl) ?_
                    refine lv_imul hx hb dX5_sumUp_342 ?_
                    refine lv_iconst (v := (3 : Int32)) hx hb dX5_sumUp_343 (by decide) ?_
                    refine lv_iadd hx hb dX5_sumUp_344 ?_
                    refine lv_iload hx hb dX5_sumUp_345 (lv_at hl 6 rfl) ?_
                    obtain ⟨P_355, hP_355, hw⟩ := hw
                    have hJ_355 : ∀ (x_164 : UInt64) (x_165 : Int32) (x_166 : UInt64) (x_167 : UInt64) (x_168 : Int32) (x_169 : Int32) (x_170 : Int32) (r_171 : Option Nat) (r_172 : Option Nat) (r_173 : Option Nat) (x_174 : Int32) (x_175 : Int32) (hp_176 : zHp) (nx_177 : Nat) (H : Heap) (locs : List Loc) (ls : Array Slot), P_355 x_164 x_165 x_166 x_167 x_168 x_169 x_170 r_171 r_172 r_173 x_174 x_175 hp_176 nx_177 → lv_has ls 14 [(0, va_rf (some h0)), (1, .int x1), (2, .double x_164), (4, .int x_165), (5, .double x_166), (7, .double x_167), (9, .int x_168), (10, .int x_169), (11, .int x_170), (12, va_rf r_171), (13, va_rf r_172)] → zHd g hp_176 H → H.size = nx_177 → va_S (zAd g) s.heap H locs → W p l e (zrm (d + 1) 0 0) s m ([.ref h0, .int x1] : List Value).toArray below meth c H locs 0 0 (MQ below (zQv g Post) ([.ref h0, .int x1] : List Value).toArray s 0 0 (zAd g)) (F0 m 355 ls [.int x_175, .int x_174, va_rf r_173]) := by
                      intro x_164 x_165 x_166 x_167 x_168 x_169 x_170 r_171 r_172 r_173 x_174 x_175 hp_176 nx_177 H locs ls hw hl hH hz hS
                      have hw := hP_355 x_164 x_165 x_166 x_167 x_168 x_169 x_170 r_171 r_172 r_173 x_174 x_175 hp_176 nx_177 hw
                      obtain ⟨a_178, n_179, f_180, er, he, hi, hA, hw⟩ := zaI_e hw
                      obtain ⟨hp_181, eh⟩ : ∃ y : zHp, y = va_up hp_176 a_178 (some (.inl (g.2.1 0, n_179, .inl (va_up f_180 x_174.toNatClampNeg x_175)))) := ⟨_, rfl⟩
                      have hw := hw hp_181 eh
                      refine zw_iast hk hH hz hS er he hi hA eh dX5_sumUp_355 (fun H locs hH hz hS => ?_)
                      refine zr_aload (r := r_171) hx hb dX5_sumUp_356 (lv_at hl 9 rfl) ?_
                      refine lv_iconst (v := (5 : Int32)) hx hb dX5_sumUp_358 (by decide) ?_
                      refine lv_iload_n hx hb dX5_sumUp_359 rfl (lv_at hl 1 rfl) ?_
                      refine lv_imul hx hb dX5_sumUp_360 ?_
                      refine lv_iconst (v := (4 : Int32)) hx hb dX5_sumUp_361 (by decide) ?_
                      refine lv_iadd hx hb dX5_sumUp_362 ?_
                      refine lv_iload hx hb dX5_sumUp_363 (lv_at hl 7 rfl) ?_
                      refine lv_i2d hx hb dX5_sumUp_365 ?_
                      obtain ⟨a_182, n_183, f_184, er, he, hi, hA, hw⟩ := zaD_e hw
                      obtain ⟨hp_185, eh⟩ : ∃ y : zHp, y = va_up hp_181 a_182 (some (.inl (g.2.1 1, n_183, .inr (.inr (.inr (.inl (va_up f_184 (((5 : Int32) * x1) + (4 : Int32)).toNatClampNeg (FP.i2d x_169)))))))) := ⟨_, rfl⟩
                      have hw := hw hp_185 eh
                      refine zw_dast hk hH hz hS er he hi hA eh dX5_sumUp_366 (fun H locs hH hz hS => ?_)
                      refine zr_aload (r := r_172) hx hb dX5_sumUp_367 (lv_at hl 10 rfl) ?_
                      refine lv_iconst (v := (5 : Int32)) hx hb dX5_sumUp_369 (by decide) ?_
                      refine lv_iload_n hx hb dX5_sumUp_370 rfl (lv_at hl 1 rfl) ?_
                      refine lv_imul hx hb dX5_sumUp_371 ?_
                      refine lv_iconst (v := (4 : Int32)) hx hb dX5_sumUp_372 (by decide) ?_
                      refine lv_iadd hx hb dX5_sumUp_373 ?_
                      refine lv_iconst (v := (0 : Int32)) hx hb dX5_sumUp_374 (by decide) ?_
                      obtain ⟨a_186, n_187, f_188, er, he, hi, hA, hw⟩ := zaI_e hw
                      obtain ⟨hp_189, eh⟩ : ∃ y : zHp, y = va_up hp_185 a_186 (some (.inl (g.2.1 0, n_187, .inl (va_up f_188 (((5 : Int32) * x1) + (4 : Int32)).toNatClampNeg (0 : Int32))))) := ⟨_, rfl⟩
                      have hw := hw hp_189 eh
                      refine zw_iast hk hH hz hS er he hi hA eh dX5_sumUp_375 (fun H locs hH hz hS => ?_)
                      refine zr_aload_n (r := some h0) hx hb dX5_sumUp_376 rfl (lv_at hl 0 rfl) ?_
                      obtain ⟨a_190, ci_191, fs_192, r_193, er, he, hc, hv, hw⟩ := zgR_e hw
                      refine zw_get hk hH er he hv (fk_X5_84 hc) dX5_sumUp_377 ?_
                      refine zr_aload_n (r := some h0) hx hb dX5_sumUp_380 rfl (lv_at hl 0 rfl) ?_
                      obtain ⟨a_194, ci_195, fs_196, x_197, er, he, hc, hv, hw⟩ := zgI_e hw
                      refine zw_get hk hH er he hv (fk_X5_247 hc) dX5_sumUp_381 ?_
                      obtain ⟨a_198, n_199, f_200, er, he, hi, hw⟩ := zaR_e hw
                      have hw := hw _ rfl
                      refine zw_aald hk hH 16 er he rfl rfl hi dX5_sumUp_384 ?_
                      generalize f_200 x_197.toNatClampNeg = r_201 at hw ⊢
                      refine lv_iload_n hx hb dX5_sumUp_385 rfl (lv_at hl 1 rfl) ?_
                      refine lv_iconst (v := (1 : Int32)) hx hb dX5_sumUp_386 (by decide) ?_
                      obtain ⟨a_202, n_203, f_204, er, he, hi, hA, hw⟩ := zaI_e hw
                      obtain ⟨hp_205, eh⟩ : ∃ y : zHp, y = va_up hp_189 a_202 (some (.inl (g.2.1 3, n_203, .inl (va_up f_204 x1.toNatClampNeg (vp_nar .boolean (1 : Int32)))))) := ⟨_, rfl⟩
                      have hw := hw hp_205 eh
                      refine zw_zast hk hH hz hS er he hi hA eh dX5_sumUp_387 (fun H locs hH hz hS => ?_)
                      exact zr_vret hk hr hH hz hS hw (Nat.le_of_ble_eq_true rfl) (Nat.le_of_ble_eq_true rfl) dX5_sumUp_388
                    refine lv_if_ne (tgt := 354) hx hb dX5_sumUp_347 (by decide) (fun hc => ?_) (fun hc => ?_)
                    · have hw := hw.2 hc
                      refine lv_iconst (v := (0 : Int32)) hx hb dX5_sumUp_354 (by decide) ?_
                      exact hJ_355 x_142 x_143 x_144 x_145 x_146 x_147 x_148 r_149 r_150 r_150 (((5 : Int32) * x1) + (3 : Int32)) (0 : Int32) hp_163 nx_155 _ _ _ hw hl hH hz hS
                    · have hw := hw.1 hc
                      refine lv_iconst (v := (4 : Int32)) hx hb dX5_sumUp_350 (by decide) ?_
                      refine lv_goto (tgt := 355) hx hb dX5_sumUp_351 (by decide) ?_
                      exact hJ_355 x_142 x_143 x_144 x_145 x_146 x_147 x_148 r_149 r_150 r_150 (((5 : Int32) * x1) + (3 : Int32)) (4 : Int32) hp_163 nx_155 _ _ _ hw hl hH hz hS
                  refine lv_if_ne (tgt := 326) hx hb dX5_sumUp_319 (by decide) (fun hc => ?_) (fun hc => ?_)
                  · have hw := hw.2 hc
                    refine lv_iconst (v := (0 : Int32)) hx hb dX5_sumUp_326 (by decide) ?_
                    exact hJ_327 x_120 x_121 x_122 x_123 x_124 x_125 x_126 r_127 r_128 r_128 (((5 : Int32) * x1) + (2 : Int32)) (0 : Int32) hp_141 nx_133 _ _ _ hw hl hH hz hS
                  · have hw := hw.1 hc
                    refine lv_iconst (v := (4 : Int32)) hx hb dX5_sumUp_322 (by decide) ?_
                    refine lv_goto (tgt := 327) hx hb dX5_sumUp_323 (by decide) ?_
                    exact hJ_327 x_120 x_121 x_122 x_123 x_124 x_125 x_126 r_127 r_128 r_128 (((5 : Int32) * x1) + (2 : Int32)) (4 : Int32) hp_141 nx_133 _ _ _ hw hl hH hz hS
                refine lv_if_ne (tgt := 289) hx hb dX5_sumUp_282 (by decide) (fun hc => ?_) (fun hc => ?_)
                · have hw := hw.2 hc
                  refine lv_iload hx hb dX5_sumUp_289 (lv_at hl 3 rfl) ?_
                  refine lv_if_eq (tgt := 298) hx hb dX5_sumUp_291 (by decide) (fun hc => ?_) (fun hc => ?_)
                  · have hw := hw.1 hc
                    refine lv_iconst (v := (0 : Int32)) hx hb dX5_sumUp_298 (by decide) ?_
                    exact hJ_299 x_102 x_103 x_104 x_105 x_106 x_107 x_108 r_109 r_110 r_110 (((5 : Int32) * x1) + (1 : Int32)) (0 : Int32) hp_119 nx_115 _ _ _ hw hl hH hz hS
                  · have hw := hw.2 hc
                    refine lv_iconst (v := (3 : Int32)) hx hb dX5_sumUp_294 (by decide) ?_
                    refine lv_goto (tgt := 299) hx hb dX5_sumUp_295 (by decide) ?_
                    exact hJ_299 x_102 x_103 x_104 x_105 x_106 x_107 x_108 r_109 r_110 r_110 (((5 : Int32) * x1) + (1 : Int32)) (3 : Int32) hp_119 nx_115 _ _ _ hw hl hH hz hS
                · have hw := hw.1 hc
                  refine lv_iconst (v := (4 : Int32)) hx hb dX5_sumUp_285 (by decide) ?_
                  refine lv_goto (tgt := 299) hx hb dX5_sumUp_286 (by decide) ?_
                  exact hJ_299 x_102 x_103 x_104 x_105 x_106 x_107 x_108 r_109 r_110 r_110 (((5 : Int32) * x1) + (1 : Int32)) (4 : Int32) hp_119 nx_115 _ _ _ hw hl hH hz hS
              refine lv_if_ne (tgt := 267) hx hb dX5_sumUp_260 (by decide) (fun hc => ?_) (fun hc => ?_)
              · have hw := hw.2 hc
                refine lv_dload_n hx hb dX5_sumUp_267 rfl (lv_at hl 2 rfl) ?_
                refine lv_iload hx hb dX5_sumUp_268 (lv_at hl 6 rfl) ?_
                refine lv_i2d hx hb dX5_sumUp_270 ?_
                obtain ⟨hne, hw⟩ := hw
                refine lv_ddiv hx hb dX5_sumUp_271 hne ?_
                exact hJ_272 x_84 x_85 x_86 x_87 x_88 x_89 x_90 r_91 r_92 r_91 (((5 : Int32) * x1) + (1 : Int32)) (FP.ddiv x_84 (FP.i2d x_88)) hp_101 nx_97 _ _ _ hw hl hH hz hS
              · have hw := hw.1 hc
                refine lv_dconst0 hx hb dX5_sumUp_263 ?_
                refine lv_goto (tgt := 272) hx hb dX5_sumUp_264 (by decide) ?_
                exact hJ_272 x_84 x_85 x_86 x_87 x_88 x_89 x_90 r_91 r_92 r_91 (((5 : Int32) * x1) + (1 : Int32)) FP.dconst0 hp_101 nx_97 _ _ _ hw hl hH hz hS
            refine lv_if_eq (tgt := 249) hx hb dX5_sumUp_242 (by decide) (fun hc => ?_) (fun hc => ?_)
            · have hw := hw.1 hc
              refine lv_iconst (v := (0 : Int32)) hx hb dX5_sumUp_249 (by decide) ?_
              exact hJ_250 x_37 x_38 x_39 x_40 x_41 x_42 x_43 r_67 r_79 r_79 ((5 : Int32) * x1) (0 : Int32) hp_83 nx_46 _ _ _ hw (lv_sub hl [2, 3, 4, 5, 6, 7, 8, 9, 10, 1, 0] rfl) hH hz hS
            · have hw := hw.2 hc
              refine lv_iconst (v := (3 : Int32)) hx hb dX5_sumUp_245 (by decide) ?_
              refine lv_goto (tgt := 250) hx hb dX5_sumUp_246 (by decide) ?_
              exact hJ_250 x_37 x_38 x_39 x_40 x_41 x_42 x_43 r_67 r_79 r_79 ((5 : Int32) * x1) (3 : Int32) hp_83 nx_46 _ _ _ hw (lv_sub hl [2, 3, 4, 5, 6, 7, 8, 9, 10, 1, 0] rfl) hH hz hS
          · have hw := hw.2 hc
            refine lv_iconst (v := (0 : Int32)) hx hb dX5_sumUp_74 (by decide) ?_
            refine lv_istore (lv' := [(13, .int (0 : Int32)), (0, va_rf (some h0)), (1, .int x1), (2, .double x_37), (4, .int x_38), (5, .double x_39), (7, .double x_40), (9, .int x_41), (10, .int x_42), (11, .int x_43), (12, .int x_44)]) hx hb dX5_sumUp_75 hl (by decide) (by first | rfl | simp [List.filter_cons, z_cat, z_catI, z_catJ, z_catF, z_catD]) (fun ls hl => ?_)
            obtain ⟨I_77, ⟨n_337, hI⟩, hB_77⟩ := hw
            have hL_77 : ∀ (n_217 : Nat) (x_206 : UInt64) (x_207 : Int32) (x_208 : UInt64) (x_209 : UInt64) (x_210 : Int32) (x_211 : Int32) (x_212 : Int32) (x_213 : Int32) (x_214 : Int32) (hp_215 : zHp) (nx_216 : Nat) (H : Heap) (locs : List Loc) (ls : Array Slot), I_77 n_217 x_206 x_207 x_208 x_209 x_210 x_211 x_212 x_213 x_214 hp_215 nx_216 → lv_has ls 14 [(0, va_rf (some h0)), (1, .int x1), (2, .double x_206), (4, .int x_207), (5, .double x_208), (7, .double x_209), (9, .int x_210), (10, .int x_211), (11, .int x_212), (12, .int x_213), (13, .int x_214)] → zHd g hp_215 H → H.size = nx_216 → va_S (zAd g) s.heap H locs → W p l e (zrm (d + 1) 0 0) s m ([.ref h0, .int x1] : List Value).toArray below meth c H locs 0 0 (MQ below (zQv g Post) ([.ref h0, .int x1] : List Value).toArray s 0 0 (zAd g)) (F0 m 77 ls []) := by
              intro n_217
              induction n_217 using Nat.strongRecOn with
              | _ n_217 ih_77 =>
                intro x_206 x_207 x_208 x_209 x_210 x_211 x_212 x_213 x_214 hp_215 nx_216 H locs ls hw hl hH hz hS
                have hw := hB_77 n_217 x_206 x_207 x_208 x_209 x_210 x_211 x_212 x_213 x_214 hp_215 nx_216 hw
                refine lv_iload hx hb dX5_sumUp_77 (lv_at hl 10 rfl) ?_
                refine lv_iload hx hb dX5_sumUp_79 (lv_at hl 8 rfl) ?_
                refine lv_icmp_ge (tgt := 200) hx hb dX5_sumUp_81 (by decide) (fun hc => ?_) (fun hc => ?_)
                · have hw := hw.1 hc
                  obtain ⟨x_218, ex_218⟩ : ∃ y : Int32, y = x_213 + (1 : Int32) := ⟨_, rfl⟩
                  have hw := hw x_218 ex_218
                  refine lv_iinc (v := x_218) (lv' := [(12, .int x_218), (0, va_rf (some h0)), (1, .int x1), (2, .double x_206), (4, .int x_207), (5, .double x_208), (7, .double x_209), (9, .int x_210), (10, .int x_211), (11, .int x_212), (13, .int x_214)]) hx hb dX5_sumUp_200 hl (k := 9) rfl (by rw [ex_218]; rfl) (by decide) (by first | rfl | simp [List.filter_cons, z_cat, z_catI, z_catJ, z_catF, z_catD]) (fun ls hl => ?_)
                  refine lv_goto (tgt := 61) hx hb dX5_sumUp_203 (by decide) ?_
                  obtain ⟨k_219, hlt, hw⟩ := hw
                  exact ih_61 k_219 hlt x_206 x_207 x_208 x_209 x_210 x_211 x_212 x_218 hp_215 nx_216 _ _ _ hw (lv_sub hl [1, 2, 3, 4, 5, 6, 7, 8, 9, 0] rfl) hH hz hS
                · have hw := hw.2 hc
                  refine zr_aload_n (r := some h0) hx hb dX5_sumUp_84 rfl (lv_at hl 0 rfl) ?_
                  refine lv_iload_n hx hb dX5_sumUp_85 rfl (lv_at hl 1 rfl) ?_
                  refine lv_iload hx hb dX5_sumUp_86 (lv_at hl 9 rfl) ?_
                  refine lv_iload hx hb dX5_sumUp_88 (lv_at hl 10 rfl) ?_
                  obtain ⟨a_334, ci_335, fs_336, er, he, hc, hw⟩ := zo_e hw
                  obtain rfl := List.mem_singleton.mp hc
                  refine zr_callv (zw_runV (As := [.int x1, .int x_213, .int x_214]) hk hH hz hS hl.1 er hw (cwV 3 hts (lw_V q3019 q3021 qs87 q162 q3022) rfl rfl rfl (by decide +kernel) (z_room (Nat.le_of_ble_eq_true rfl))) he rfl rfl rfl (Nat.le_of_ble_eq_true rfl) dX5_sumUp_90 ⟨Nat.le_of_ble_eq_true rfl, Nat.le_of_ble_eq_true rfl⟩) hS (fun hp_220 nx_221 hw H locs hH hz hS => ?_)
                  refine zr_aload_n (r := some h0) hx hb dX5_sumUp_93 rfl (lv_at hl 0 rfl) ?_
                  obtain ⟨a_222, ci_223, fs_224, x_225, er, he, hc, hv, hw⟩ := zgI_e hw
                  refine zw_get hk hH er he hv (fk_X5_286 hc) dX5_sumUp_94 ?_
                  obtain ⟨P_194, hP_194, hw⟩ := hw
                  have hJ_194 : ∀ (x_226 : UInt64) (x_227 : Int32) (x_228 : UInt64) (x_229 : UInt64) (x_230 : Int32) (x_231 : Int32) (x_232 : Int32) (x_233 : Int32) (x_234 : Int32) (hp_235 : zHp) (nx_236 : Nat) (H : Heap) (locs : List Loc) (ls : Array Slot), P_194 x_226 x_227 x_228 x_229 x_230 x_231 x_232 x_233 x_234 hp_235 nx_236 → lv_has ls 14 [(0, va_rf (some h0)), (1, .int x1), (2, .double x_226), (4, .int x_227), (5, .double x_228), (7, .double x_229), (9, .int x_230), (10, .int x_231), (11, .int x_232), (12, .int x_233), (13, .int x_234)] → zHd g hp_235 H → H.size = nx_236 → va_S (zAd g) s.heap H locs → W p l e (zrm (d + 1) 0 0) s m ([.ref h0, .int x1] : List Value).toArray below meth c H locs 0 0 (MQ below (zQv g Post) ([.ref h0, .int x1] : List Value).toArray s 0 0 (zAd g)) (F0 m 194 ls []) := by
                    intro x_226 x_227 x_228 x_229 x_230 x_231 x_232 x_233 x_234 hp_235 nx_236 H locs ls hw hl hH hz hS
                    have hw := hP_194 x_226 x_227 x_228 x_229 x_230 x_231 x_232 x_233 x_234 hp_235 nx_236 hw
                    obtain ⟨x_237, ex_237⟩ : ∃ y : Int32, y = x_234 + (1 : Int32) := ⟨_, rfl⟩
                    have hw := hw x_237 ex_237
                    refine lv_iinc (v := x_237) (lv' := [(13, .int x_237), (0, va_rf (some h0)), (1, .int x1), (2, .double x_226), (4, .int x_227), (5, .double x_228), (7, .double x_229), (9, .int x_230), (10, .int x_231), (11, .int x_232), (12, .int x_233)]) hx hb dX5_sumUp_194 hl (k := 10) rfl (by rw [ex_237]; rfl) (by decide) (by first | rfl | simp [List.filter_cons, z_cat, z_catI, z_catJ, z_catF, z_catD]) (fun ls hl => ?_)
                    refine lv_goto (tgt := 77) hx hb dX5_sumUp_197 (by decide) ?_
                    obtain ⟨k_238, hlt, hw⟩ := hw
                    exact ih_77 k_238 hlt x_226 x_227 x_228 x_229 x_230 x_231 x_232 x_233 x_237 hp_235 nx_236 _ _ _ hw (lv_sub hl [1, 2, 3, 4, 5, 6, 7, 8, 9, 10, 0] rfl) hH hz hS
                  refine lv_if_eq (tgt := 106) hx hb dX5_sumUp_97 (by decide) (fun hc => ?_) (fun hc => ?_)
                  · have hw := hw.1 hc
                    refine lv_dload_n hx hb dX5_sumUp_106 rfl (lv_at hl 2 rfl) ?_
                    refine zr_aload_n (r := some h0) hx hb dX5_sumUp_107 rfl (lv_at hl 0 rfl) ?_
                    obtain ⟨a_239, ci_240, fs_241, x_242, er, he, hc, hv, hw⟩ := zgD_e hw
                    refine zw_get hk hH er he hv (fk_X5_282 hc) dX5_sumUp_108 ?_
                    obtain ⟨hne, hw⟩ := hw
                    refine lv_dadd hx hb dX5_sumUp_111 hne ?_
                    refine lv_topd (fun x_243 ex_243 => ?_)
                    have hw := hw x_243 ex_243
                    refine lv_dstore_n (i := 2) (lv' := [(2, .double x_243), (0, va_rf (some h0)), (1, .int x1), (4, .int x_207), (5, .double x_208), (7, .double x_209), (9, .int x_210), (10, .int x_211), (11, .int x_212), (12, .int x_213), (13, .int x_214)]) hx hb dX5_sumUp_112 rfl hl (by decide) (by first | rfl | simp [List.filter_cons, z_cat, z_catI, z_catJ, z_catF, z_catD]) (fun ls hl => ?_)
                    refine lv_iload hx hb dX5_sumUp_113 (lv_at hl 3 rfl) ?_
                    refine lv_dload_n hx hb dX5_sumUp_115 rfl (lv_at hl 0 rfl) ?_
                    refine lv_ldc2d hx hb hown (hts _ q3023) dX5_sumUp_116 ?_
                    refine lv_dcmp hx hb dX5_sumUp_119 ?_
                    obtain ⟨P_136, hP_136, hw⟩ := hw
                    have hJ_136 : ∀ (x_244 : UInt64) (x_245 : Int32) (x_246 : UInt64) (x_247 : UInt64) (x_248 : Int32) (x_249 : Int32) (x_250 : Int32) (x_251 : Int32) (x_252 : Int32) (x_253 : Int32) (x_254 : Int32) (hp_255 : zHp) (nx_256 : Nat) (H : Heap) (locs : List Loc) (ls : Array Slot), P_136 x_244 x_245 x_246 x_247 x_248 x_249 x_250 x_251 x_252 x_253 x_254 hp_255 nx_256 → lv_has ls 14 [(0, va_rf (some h0)), (1, .int x1), (2, .double x_244), (4, .int x_245), (5, .double x_246), (7, .double x_247), (9, .int x_248), (10, .int x_249), (11, .int x_250), (12, .int x_251), (13, .int x_252)] → zHd g hp_255 H → H.size = nx_256 → va_S (zAd g) s.heap H locs → W p l e (zrm (d + 1) 0 0) s m ([.ref h0, .int x1] : List Value).toArray below meth c H locs 0 0 (MQ below (zQv g Post) ([.ref h0, .int x1] : List Value).toArray s 0 0 (zAd g)) (F0 m 136 ls [.int x_254, .int x_253]) := by
                      intro x_244 x_245 x_246 x_247 x_248 x_249 x_250 x_251 x_252 x_253 x_254 hp_255 nx_256 H locs ls hw hl hH hz hS
                      have hw := hP_136 x_244 x_245 x_246 x_247 x_248 x_249 x_250 x_251 x_252 x_253 x_254 hp_255 nx_256 hw
                      refine lv_ior hx hb dX5_sumUp_136 ?_
                      refine lv_topi (fun x_257 ex_257 => ?_)
                      have hw := hw x_257 ex_257
                      refine lv_istore (lv' := [(4, .int x_257), (0, va_rf (some h0)), (1, .int x1), (2, .double x_244), (5, .double x_246), (7, .double x_247), (9, .int x_248), (10, .int x_249), (11, .int x_250), (12, .int x_251), (13, .int x_252)]) hx hb dX5_sumUp_137 hl (by decide) (by first | rfl | simp [List.filter_cons, z_cat, z_catI, z_catJ, z_catF, z_catD]) (fun ls hl => ?_)
                      refine lv_iload hx hb dX5_sumUp_139 (lv_at hl 6 rfl) ?_
                      obtain ⟨P_163, hP_163, hw⟩ := hw
                      have hJ_163 : ∀ (x_258 : UInt64) (x_259 : Int32) (x_260 : UInt64) (x_261 : UInt64) (x_262 : Int32) (x_263 : Int32) (x_264 : Int32) (x_265 : Int32) (x_266 : Int32) (x_267 : UInt64) (hp_268 : zHp) (nx_269 : Nat) (H : Heap) (locs : List Loc) (ls : Array Slot), P_163 x_258 x_259 x_260 x_261 x_262 x_263 x_264 x_265 x_266 x_267 hp_268 nx_269 → lv_has ls 14 [(0, va_rf (some h0)), (1, .int x1), (2, .double x_258), (4, .int x_259), (5, .double x_260), (7, .double x_261), (9, .int x_262), (10, .int x_263), (11, .int x_264), (12, .int x_265), (13, .int x_266)] → zHd g hp_268 H → H.size = nx_269 → va_S (zAd g) s.heap H locs → W p l e (zrm (d + 1) 0 0) s m ([.ref h0, .int x1] : List Value).toArray below meth c H locs 0 0 (MQ below (zQv g Post) ([.ref h0, .int x1] : List Value).toArray s 0 0 (zAd g)) (F0 m 163 ls [.double x_267]) := by
                        intro x_258 x_259 x_260 x_261 x_262 x_263 x_264 x_265 x_266 x_267 hp_268 nx_269 H locs ls hw hl hH hz hS
                        have hw := hP_163 x_258 x_259 x_260 x_261 x_262 x_263 x_264 x_265 x_266 x_267 hp_268 nx_269 hw
                        refine lv_dstore (lv' := [(5, .double x_267), (0, va_rf (some h0)), (1, .int x1), (2, .double x_258), (4, .int x_259), (7, .double x_261), (9, .int x_262), (10, .int x_263), (11, .int x_264), (12, .int x_265), (13, .int x_266)]) hx hb dX5_sumUp_163 hl (by decide) (by first | rfl | simp [List.filter_cons, z_cat, z_catI, z_catJ, z_catF, z_catD]) (fun ls hl => ?_)
                        refine lv_iload hx hb dX5_sumUp_165 (lv_at hl 6 rfl) ?_
                        obtain ⟨P_189, hP_189, hw⟩ := hw
                        have hJ_189 : ∀ (x_270 : UInt64) (x_271 : Int32) (x_272 : UInt64) (x_273 : UInt64) (x_274 : Int32) (x_275 : Int32) (x_276 : Int32) (x_277 : Int32) (x_278 : Int32) (x_279 : UInt64) (hp_280 : zHp) (nx_281 : Nat) (H : Heap) (locs : List Loc) (ls : Array Slot), P_189 x_270 x_271 x_272 x_273 x_274 x_275 x_276 x_277 x_278 x_279 hp_280 nx_281 → lv_has ls 14 [(0, va_rf (some h0)), (1, .int x1), (2, .double x_270), (4, .int x_271), (5, .double x_272), (7, .double x_273), (9, .int x_274), (10, .int x_275), (11, .int x_276), (12, .int x_277), (13, .int x_278)] → zHd g hp_280 H → H.size = nx_281 → va_S (zAd g) s.heap H locs → W p l e (zrm (d + 1) 0 0) s m ([.ref h0, .int x1] : List Value).toArray below meth c H locs 0 0 (MQ below (zQv g Post) ([.ref h0, .int x1] : List Value).toArray s 0 0 (zAd g)) (F0 m 189 ls [.double x_279]) := by
                          intro x_270 x_271 x_272 x_273 x_274 x_275 x_276 x_277 x_278 x_279 hp_280 nx_281 H locs ls hw hl hH hz hS
                          have hw := hP_189 x_270 x_271 x_272 x_273 x_274 x_275 x_276 x_277 x_278 x_279 hp_280 nx_281 hw
                          refine lv_dstore (lv' := [(7, .double x_279), (0, va_rf (some h0)), (1, .int x1), (2, .double x_270), (4, .int x_271), (5, .double x_272), (9, .int x_274), (10, .int x_275), (11, .int x_276), (12, .int x_277), (13, .int x_278)]) hx hb dX5_sumUp_189 hl (by decide) (by first | rfl | simp [List.filter_cons, z_cat, z_catI, z_catJ, z_catF, z_catD]) (fun ls hl => ?_)
                          obtain ⟨x_282, ex_282⟩ : ∃ y : Int32, y = x_274 + (1 : Int32) := ⟨_, rfl⟩
                          have hw := hw x_282 ex_282
                          refine lv_iinc (v := x_282) (lv' := [(9, .int x_282), (7, .double x_279), (0, va_rf (some h0)), (1, .int x1), (2, .double x_270), (4, .int x_271), (5, .double x_272), (10, .int x_275), (11, .int x_276), (12, .int x_277), (13, .int x_278)]) hx hb dX5_sumUp_191 hl (k := 6) rfl (by rw [ex_282]; rfl) (by decide) (by first | rfl | simp [List.filter_cons, z_cat, z_catI, z_catJ, z_catF, z_catD]) (fun ls hl => ?_)
                          exact hJ_194 x_270 x_271 x_272 x_279 x_282 x_275 x_276 x_277 x_278 hp_280 nx_281 _ _ _ hw (lv_sub hl [2, 3, 4, 5, 6, 1, 0, 7, 8, 9, 10] rfl) hH hz hS
                        obtain ⟨P_180, hP_180, hw⟩ := hw
                        have hJ_180 : ∀ (x_283 : UInt64) (x_284 : Int32) (x_285 : UInt64) (x_286 : UInt64) (x_287 : Int32) (x_288 : Int32) (x_289 : Int32) (x_290 : Int32) (x_291 : Int32) (hp_292 : zHp) (nx_293 : Nat) (H : Heap) (locs : List Loc) (ls : Array Slot), P_180 x_283 x_284 x_285 x_286 x_287 x_288 x_289 x_290 x_291 hp_292 nx_293 → lv_has ls 14 [(0, va_rf (some h0)), (1, .int x1), (2, .double x_283), (4, .int x_284), (5, .double x_285), (7, .double x_286), (9, .int x_287), (10, .int x_288), (11, .int x_289), (12, .int x_290), (13, .int x_291)] → zHd g hp_292 H → H.size = nx_293 → va_S (zAd g) s.heap H locs → W p l e (zrm (d + 1) 0 0) s m ([.ref h0, .int x1] : List Value).toArray below meth c H locs 0 0 (MQ below (zQv g Post) ([.ref h0, .int x1] : List Value).toArray s 0 0 (zAd g)) (F0 m 180 ls []) := by
                          intro x_283 x_284 x_285 x_286 x_287 x_288 x_289 x_290 x_291 hp_292 nx_293 H locs ls hw hl hH hz hS
                          have hw := hP_180 x_283 x_284 x_285 x_286 x_287 x_288 x_289 x_290 x_291 hp_292 nx_293 hw
                          refine zr_aload_n (r := some h0) hx hb dX5_sumUp_180 rfl (lv_at hl 0 rfl) ?_
                          obtain ⟨a_294, ci_295, fs_296, x_297, er, he, hc, hv, hw⟩ := zgD_e hw
                          refine zw_get hk hH er he hv (fk_X5_282 hc) dX5_sumUp_181 ?_
                          refine lv_goto (tgt := 189) hx hb dX5_sumUp_184 (by decide) ?_
                          exact hJ_189 x_283 x_284 x_285 x_286 x_287 x_288 x_289 x_290 x_291 x_297 hp_292 nx_293 _ _ _ hw hl hH hz hS
                        refine lv_if_eq (tgt := 180) hx hb dX5_sumUp_167 (by decide) (fun hc => ?_) (fun hc => ?_)
                        · have hw := hw.1 hc
                          exact hJ_180 x_258 x_259 x_267 x_261 x_262 x_263 x_264 x_265 x_266 hp_268 nx_269 _ _ _ hw (lv_sub hl [1, 2, 3, 4, 0, 5, 6, 7, 8, 9, 10] rfl) hH hz hS
                        · have hw := hw.2 hc
                          refine zr_aload_n (r := some h0) hx hb dX5_sumUp_170 rfl (lv_at hl 1 rfl) ?_
                          obtain ⟨a_298, ci_299, fs_300, x_301, er, he, hc, hv, hw⟩ := zgD_e hw
                          refine zw_get hk hH er he hv (fk_X5_282 hc) dX5_sumUp_171 ?_
                          refine lv_dload hx hb dX5_sumUp_174 (lv_at hl 5 rfl) ?_
                          refine lv_dcmp hx hb dX5_sumUp_176 ?_
                          refine lv_if_le (tgt := 187) hx hb dX5_sumUp_177 (by decide) (fun hc => ?_) (fun hc => ?_)
                          · have hw := hw.1 hc
                            refine lv_dload hx hb dX5_sumUp_187 (lv_at hl 5 rfl) ?_
                            exact hJ_189 x_258 x_259 x_267 x_261 x_262 x_263 x_264 x_265 x_266 x_261 hp_268 nx_269 _ _ _ hw (lv_sub hl [1, 2, 3, 4, 0, 5, 6, 7, 8, 9, 10] rfl) hH hz hS
                          · have hw := hw.2 hc
                            exact hJ_180 x_258 x_259 x_267 x_261 x_262 x_263 x_264 x_265 x_266 hp_268 nx_269 _ _ _ hw (lv_sub hl [1, 2, 3, 4, 0, 5, 6, 7, 8, 9, 10] rfl) hH hz hS
                      obtain ⟨P_154, hP_154, hw⟩ := hw
                      have hJ_154 : ∀ (x_302 : UInt64) (x_303 : Int32) (x_304 : UInt64) (x_305 : UInt64) (x_306 : Int32) (x_307 : Int32) (x_308 : Int32) (x_309 : Int32) (x_310 : Int32) (hp_311 : zHp) (nx_312 : Nat) (H : Heap) (locs : List Loc) (ls : Array Slot), P_154 x_302 x_303 x_304 x_305 x_306 x_307 x_308 x_309 x_310 hp_311 nx_312 → lv_has ls 14 [(0, va_rf (some h0)), (1, .int x1), (2, .double x_302), (4, .int x_303), (5, .double x_304), (7, .double x_305), (9, .int x_306), (10, .int x_307), (11, .int x_308), (12, .int x_309), (13, .int x_310)] → zHd g hp_311 H → H.size = nx_312 → va_S (zAd g) s.heap H locs → W p l e (zrm (d + 1) 0 0) s m ([.ref h0, .int x1] : List Value).toArray below meth c H locs 0 0 (MQ below (zQv g Post) ([.ref h0, .int x1] : List Value).toArray s 0 0 (zAd g)) (F0 m 154 ls []) := by
                        intro x_302 x_303 x_304 x_305 x_306 x_307 x_308 x_309 x_310 hp_311 nx_312 H locs ls hw hl hH hz hS
                        have hw := hP_154 x_302 x_303 x_304 x_305 x_306 x_307 x_308 x_309 x_310 hp_311 nx_312 hw
                        refine zr_aload_n (r := some h0) hx hb dX5_sumUp_154 rfl (lv_at hl 0 rfl) ?_
                        obtain ⟨a_313, ci_314, fs_315, x_316, er, he, hc, hv, hw⟩ := zgD_e hw
                        refine zw_get hk hH er he hv (fk_X5_282 hc) dX5_sumUp_155 ?_
                        refine lv_goto (tgt := 163) hx hb dX5_sumUp_158 (by decide) ?_
                        exact hJ_163 x_302 x_303 x_304 x_305 x_306 x_307 x_308 x_309 x_310 x_316 hp_311 nx_312 _ _ _ hw hl hH hz hS
                      refine lv_if_eq (tgt := 154) hx hb dX5_sumUp_141 (by decide) (fun hc => ?_) (fun hc => ?_)
                      · have hw := hw.1 hc
                        exact hJ_154 x_244 x_257 x_246 x_247 x_248 x_249 x_250 x_251 x_252 hp_255 nx_256 _ _ _ hw (lv_sub hl [1, 2, 3, 0, 4, 5, 6, 7, 8, 9, 10] rfl) hH hz hS
                      · have hw := hw.2 hc
                        refine zr_aload_n (r := some h0) hx hb dX5_sumUp_144 rfl (lv_at hl 1 rfl) ?_
                        obtain ⟨a_317, ci_318, fs_319, x_320, er, he, hc, hv, hw⟩ := zgD_e hw
                        refine zw_get hk hH er he hv (fk_X5_282 hc) dX5_sumUp_145 ?_
                        refine lv_dload hx hb dX5_sumUp_148 (lv_at hl 4 rfl) ?_
                        refine lv_dcmp hx hb dX5_sumUp_150 ?_
                        refine lv_if_ge (tgt := 161) hx hb dX5_sumUp_151 (by decide) (fun hc => ?_) (fun hc => ?_)
                        · have hw := hw.1 hc
                          refine lv_dload hx hb dX5_sumUp_161 (lv_at hl 4 rfl) ?_
                          exact hJ_163 x_244 x_257 x_246 x_247 x_248 x_249 x_250 x_251 x_252 x_246 hp_255 nx_256 _ _ _ hw (lv_sub hl [1, 2, 3, 0, 4, 5, 6, 7, 8, 9, 10] rfl) hH hz hS
                        · have hw := hw.2 hc
                          exact hJ_154 x_244 x_257 x_246 x_247 x_248 x_249 x_250 x_251 x_252 hp_255 nx_256 _ _ _ hw (lv_sub hl [1, 2, 3, 0, 4, 5, 6, 7, 8, 9, 10] rfl) hH hz hS
                    obtain ⟨P_131, hP_131, hw⟩ := hw
                    have hJ_131 : ∀ (x_321 : UInt64) (x_322 : Int32) (x_323 : UInt64) (x_324 : UInt64) (x_325 : Int32) (x_326 : Int32) (x_327 : Int32) (x_328 : Int32) (x_329 : Int32) (x_330 : Int32) (hp_331 : zHp) (nx_332 : Nat) (H : Heap) (locs : List Loc) (ls : Array Slot), P_131 x_321 x_322 x_323 x_324 x_325 x_326 x_327 x_328 x_329 x_330 hp_331 nx_332 → lv_has ls 14 [(0, va_rf (some h0)), (1, .int x1), (2, .double x_321), (4, .int x_322), (5, .double x_323), (7, .double x_324), (9, .int x_325), (10, .int x_326), (11, .int x_327), (12, .int x_328), (13, .int x_329)] → zHd g hp_331 H → H.size = nx_332 → va_S (zAd g) s.heap H locs → W p l e (zrm (d + 1) 0 0) s m ([.ref h0, .int x1] : List Value).toArray below meth c H locs 0 0 (MQ below (zQv g Post) ([.ref h0, .int x1] : List Value).toArray s 0 0 (zAd g)) (F0 m 131 ls [.int x_330]) := by
                      intro x_321 x_322 x_323 x_324 x_325 x_326 x_327 x_328 x_329 x_330 hp_331 nx_332 H locs ls hw hl hH hz hS
                      have hw := hP_131 x_321 x_322 x_323 x_324 x_325 x_326 x_327 x_328 x_329 x_330 hp_331 nx_332 hw
                      refine lv_iconst (v := (1 : Int32)) hx hb dX5_sumUp_131 (by decide) ?_
                      refine lv_goto (tgt := 136) hx hb dX5_sumUp_132 (by decide) ?_
                      exact hJ_136 x_321 x_322 x_323 x_324 x_325 x_326 x_327 x_328 x_329 x_330 (1 : Int32) hp_331 nx_332 _ _ _ hw hl hH hz hS
                    refine lv_if_gt (tgt := 131) hx hb dX5_sumUp_120 (by decide) (fun hc => ?_) (fun hc => ?_)
                    · have hw := hw.1 hc
                      exact hJ_131 x_243 x_207 x_208 x_209 x_210 x_211 x_212 x_213 x_214 x_207 hp_220 nx_221 _ _ _ hw (lv_sub hl [1, 2, 0, 3, 4, 5, 6, 7, 8, 9, 10] rfl) hH hz hS
                    · have hw := hw.2 hc
                      refine lv_dload_n hx hb dX5_sumUp_123 rfl (lv_at hl 0 rfl) ?_
                      refine lv_ldc2d hx hb hown (hts _ q3024) dX5_sumUp_124 ?_
                      refine lv_dcmp hx hb dX5_sumUp_127 ?_
                      refine lv_if_ge (tgt := 135) hx hb dX5_sumUp_128 (by decide) (fun hc => ?_) (fun hc => ?_)
                      · have hw := hw.1 hc
                        refine lv_iconst (v := (0 : Int32)) hx hb dX5_sumUp_135 (by decide) ?_
                        exact hJ_136 x_243 x_207 x_208 x_209 x_210 x_211 x_212 x_213 x_214 x_207 (0 : Int32) hp_220 nx_221 _ _ _ hw (lv_sub hl [1, 2, 0, 3, 4, 5, 6, 7, 8, 9, 10] rfl) hH hz hS
                      · have hw := hw.2 hc
                        exact hJ_131 x_243 x_207 x_208 x_209 x_210 x_211 x_212 x_213 x_214 x_207 hp_220 nx_221 _ _ _ hw (lv_sub hl [1, 2, 0, 3, 4, 5, 6, 7, 8, 9, 10] rfl) hH hz hS
                  · have hw := hw.2 hc
                    obtain ⟨x_333, ex_333⟩ : ∃ y : Int32, y = x_211 + (1 : Int32) := ⟨_, rfl⟩
                    have hw := hw x_333 ex_333
                    refine lv_iinc (v := x_333) (lv' := [(10, .int x_333), (0, va_rf (some h0)), (1, .int x1), (2, .double x_206), (4, .int x_207), (5, .double x_208), (7, .double x_209), (9, .int x_210), (11, .int x_212), (12, .int x_213), (13, .int x_214)]) hx hb dX5_sumUp_100 hl (k := 7) rfl (by rw [ex_333]; rfl) (by decide) (by first | rfl | simp [List.filter_cons, z_cat, z_catI, z_catJ, z_catF, z_catD]) (fun ls hl => ?_)
                    refine lv_goto (tgt := 194) hx hb dX5_sumUp_103 (by decide) ?_
                    exact hJ_194 x_206 x_207 x_208 x_209 x_210 x_333 x_212 x_213 x_214 hp_220 nx_221 _ _ _ hw (lv_sub hl [1, 2, 3, 4, 5, 6, 7, 0, 8, 9, 10] rfl) hH hz hS
            exact hL_77 n_337 x_37 x_38 x_39 x_40 x_41 x_42 x_43 x_44 (0 : Int32) hp_45 nx_46 _ _ _ hI (lv_sub hl [1, 2, 3, 4, 5, 6, 7, 8, 9, 10, 0] rfl) hH hz hS
      exact hL_61 n_338 x_28 x_29 x_30 x_31 x_32 x_33 x_34 (0 : Int32) hp_35 nx_36 _ _ _ hI (lv_sub hl [2, 3, 4, 5, 6, 7, 8, 9, 1, 0] rfl) hH hz hS
    refine lv_icmp_ne (tgt := 46) hx hb dX5_sumUp_39 (by decide) (fun hc => ?_) (fun hc => ?_)
    · have hw := hw.2 hc
      refine zr_aload_n (r := some h0) hx hb dX5_sumUp_46 rfl (lv_at hl 6 rfl) ?_
      obtain ⟨a_339, ci_340, fs_341, r_342, er, he, hc, hv, hw⟩ := zgR_e hw
      refine zw_get hk hH er he hv (fk_X5_46 hc) dX5_sumUp_47 ?_
      refine lv_iconst (v := (2 : Int32)) hx hb dX5_sumUp_50 (by decide) ?_
      refine lv_iload_n hx hb dX5_sumUp_51 rfl (lv_at hl 7 rfl) ?_
      refine lv_imul hx hb dX5_sumUp_52 ?_
      refine lv_iconst (v := (1 : Int32)) hx hb dX5_sumUp_53 (by decide) ?_
      refine lv_iadd hx hb dX5_sumUp_54 ?_
      obtain ⟨a_343, n_344, f_345, er, he, hi, hw⟩ := zaI_e hw
      have hw := hw _ rfl
      refine zw_iald hk hH er he hi dX5_sumUp_55 ?_
      generalize f_345 (((2 : Int32) * x1) + (1 : Int32)).toNatClampNeg = x_346 at hw ⊢
      exact hJ_56 x_17 (0 : Int32) x_18 x_19 (0 : Int32) (0 : Int32) x_346 hp nx _ _ _ hw (lv_sub hl [6, 7, 5, 4, 3, 2, 1, 0] rfl) hH hz hS
    · have hw := hw.1 hc
      refine lv_iconst (v := (1 : Int32)) hx hb dX5_sumUp_42 (by decide) ?_
      refine lv_goto (tgt := 56) hx hb dX5_sumUp_43 (by decide) ?_
      exact hJ_56 x_17 (0 : Int32) x_18 x_19 (0 : Int32) (0 : Int32) (1 : Int32) hp nx _ _ _ hw (lv_sub hl [6, 7, 5, 4, 3, 2, 1, 0] rfl) hH hz hS
  · have hw := hw.2 hc
    exact zr_vret hk hr hH hz hS hw (Nat.le_of_ble_eq_true rfl) (Nat.le_of_ble_eq_true rfl) dX5_sumUp_14
theorem fk_X5_49 {ci : Nat} (h : ci ∈ [5]) : zFk "WhatIfSheetModel" 49 ci 11 := by
  simp only [List.mem_cons, List.not_mem_nil, or_false] at h
  rcases h with rfl
  · exact ⟨RX5, TX5, 76, rfl, by decide, q2685⟩
theorem fp_X5_282 {ci : Nat} (h : ci ∈ [5]) : zFp "WhatIfSheetModel" 282 ci 30 .double := by
  simp only [List.mem_cons, List.not_mem_nil, or_false] at h
  rcases h with rfl
  · exact ⟨RX5, TX5, 76, rfl, by decide, q2704, rfl, by decide +kernel⟩
theorem fp_X5_286 {ci : Nat} (h : ci ∈ [5]) : zFp "WhatIfSheetModel" 286 ci 31 .int := by
  simp only [List.mem_cons, List.not_mem_nil, or_false] at h
  rcases h with rfl
  · exact ⟨RX5, TX5, 76, rfl, by decide, q2705, rfl, by decide +kernel⟩
theorem fp_X5_289 {ci : Nat} (h : ci ∈ [5]) : zFp "WhatIfSheetModel" 289 ci 32 .int := by
  simp only [List.mem_cons, List.not_mem_nil, or_false] at h
  rcases h with rfl
  · exact ⟨RX5, TX5, 76, rfl, by decide, q2706, rfl, by decide +kernel⟩
def wp_X5_tellCase (l : Launch) (g : zG) (d : Nat) (h0 : Nat) (x1 : Int32) (x2 : Int32) (x3 : Int32) (hp : zHp) (nx : Nat) (Post : zHp → Nat → Prop) : Prop :=
  (zgR hp (some h0) [5] 8 fun r_4 =>
  (zaI (g.2.1 0) hp r_4 fun a_5 n_6 f_7 => vp_in x1 n_6 ∧ ∀ x_8 : Int32, x_8 = f_7 x1.toNatClampNeg →
  (zgR hp (some h0) [5] 9 fun r_12 =>
  (zaI (g.2.1 0) hp r_12 fun a_13 n_14 f_15 => vp_in x1 n_14 ∧ ∀ x_16 : Int32, x_16 = f_15 x1.toNatClampNeg →
  (∃ P_29 : Int32 → Int32 → zHp → Nat → Prop, (∀ (x_17 : Int32) (x_18 : Int32) (hp_19 : zHp) (nx_20 : Nat), P_29 x_17 x_18 hp_19 nx_20 →
  (zgR hp_19 (some h0) [5] 2 fun r_24 =>
  (zaD (g.2.1 1) hp_19 r_24 fun a_25 n_26 f_27 => vp_in x_17 n_26 ∧ ∀ x_28 : UInt64, x_28 = f_27 x_17.toNatClampNeg →
  (zgR hp_19 (some h0) [5] 2 fun r_32 =>
  (zaD (g.2.1 1) hp_19 r_32 fun a_33 n_34 f_35 => vp_in x_18 n_34 ∧ ∀ x_36 : UInt64, x_36 = f_35 x_18.toNatClampNeg →
  (zgR hp_19 (some h0) [5] 1 fun r_40 =>
  (zaI (g.2.1 3) hp_19 r_40 fun a_41 n_42 f_43 => vp_in x_17 n_42 ∧ ∀ x_44 : Int32, x_44 = f_43 x_17.toNatClampNeg →
  (zgR hp_19 (some h0) [5] 1 fun r_48 =>
  (zaI (g.2.1 3) hp_19 r_48 fun a_49 n_50 f_51 => vp_in x_18 n_50 ∧ ∀ x_52 : Int32, x_52 = f_51 x_18.toNatClampNeg →
  (zgR hp_19 (some h0) [5] 9 fun r_56 =>
  (zaI (g.2.1 0) hp_19 r_56 fun a_57 n_58 f_59 => vp_in x1 n_58 ∧ ∀ x_60 : Int32, x_60 = f_59 x1.toNatClampNeg →
  (∃ P_104 : Int32 → Int32 → UInt64 → UInt64 → Int32 → Int32 → zHp → Nat → Prop, (∀ (x_61 : Int32) (x_62 : Int32) (x_63 : UInt64) (x_64 : UInt64) (x_65 : Int32) (x_66 : Int32) (hp_67 : zHp) (nx_68 : Nat), P_104 x_61 x_62 x_63 x_64 x_65 x_66 hp_67 nx_68 →
  (zgR hp_67 (some h0) [5] 2 fun r_72 =>
  (zgR hp_67 (some h0) [5] 11 fun r_76 =>
  (zaR (g.2.1 15) hp_67 r_76 fun a_77 n_78 f_79 => vp_in ((2 : Int32) * x1) n_78 ∧ ∀ r_80 : Option Nat, r_80 = f_79 ((2 : Int32) * x1).toNatClampNeg →
  (zaD (g.2.1 1) hp_67 r_80 fun a_81 n_82 f_83 => vp_in x2 n_82 ∧ ∀ x_84 : UInt64, x_84 = f_83 x2.toNatClampNeg →
  (zaD (g.2.1 1) hp_67 r_72 fun a_85 n_86 f_87 => vp_in x_61 n_86 ∧ zB g ≤ a_85 ∧ ∀ hp_88 : zHp, hp_88 = va_up hp_67 a_85 (some (.inl (g.2.1 1, n_86, .inr (.inr (.inr (.inl (va_up f_87 x_61.toNatClampNeg x_84))))))) →
  (zgR hp_88 (some h0) [5] 1 fun r_92 =>
  (zaI (g.2.1 3) hp_88 r_92 fun a_93 n_94 f_95 => vp_in x_61 n_94 ∧ zB g ≤ a_93 ∧ ∀ hp_96 : zHp, hp_96 = va_up hp_88 a_93 (some (.inl (g.2.1 3, n_94, .inl (va_up f_95 x_61.toNatClampNeg (vp_nar .boolean (1 : Int32)))))) →
  (zgI hp_96 (some h0) [5] 18 fun x_100 =>
  (zpt g hp_96 (some h0) [5] 18 (.int (x_100 + (1 : Int32))) fun hp_104 =>
  (zo hp_104 (some h0) [5] fun a_244 ci_245 fs_246 => zMt l g yX5_afresh cX5_afresh 2 none d 0 0 (.ref a_244 :: []) hp_104 nx_68 (zQv g fun hp_105 nx_106 =>
  (zgR hp_105 (some h0) [5] 7 fun r_110 =>
  (zaI (g.2.1 0) hp_105 r_110 fun a_111 n_112 f_113 => vp_in x1 n_112 ∧ ∀ x_114 : Int32, x_114 = f_113 x1.toNatClampNeg →
  (zo hp_105 (some h0) [5] fun a_241 ci_242 fs_243 => zMt l g yX5_tell cX5_tell 3 none d 0 0 (.ref a_241 :: [.int x_114]) hp_105 nx_106 (zQv g fun hp_115 nx_116 =>
  (zgR hp_115 (some h0) [5] 20 fun r_120 =>
  (zgI hp_115 (some h0) [5] 18 fun x_124 =>
  (zaR (g.2.1 15) hp_115 r_120 fun a_125 n_126 f_127 => vp_in x_124 n_126 ∧ ∀ r_128 : Option Nat, r_128 = f_127 x_124.toNatClampNeg →
  (zgR hp_115 (some h0) [5] 7 fun r_132 =>
  (zaI (g.2.1 0) hp_115 r_132 fun a_133 n_134 f_135 => vp_in x1 n_134 ∧ ∀ x_136 : Int32, x_136 = f_135 x1.toNatClampNeg →
  (zaD (g.2.1 1) hp_115 r_128 fun a_137 n_138 f_139 => vp_in x_136 n_138 ∧ ∀ x_140 : UInt64, x_140 = f_139 x_136.toNatClampNeg →
  (zpt g hp_115 (some h0) [5] 30 (.double x_140) fun hp_144 =>
  (zgR hp_144 (some h0) [5] 21 fun r_148 =>
  (zgI hp_144 (some h0) [5] 18 fun x_152 =>
  (zaR (g.2.1 14) hp_144 r_148 fun a_153 n_154 f_155 => vp_in x_152 n_154 ∧ ∀ r_156 : Option Nat, r_156 = f_155 x_152.toNatClampNeg →
  (zgR hp_144 (some h0) [5] 7 fun r_160 =>
  (zaI (g.2.1 0) hp_144 r_160 fun a_161 n_162 f_163 => vp_in x1 n_162 ∧ ∀ x_164 : Int32, x_164 = f_163 x1.toNatClampNeg →
  (zaI (g.2.1 0) hp_144 r_156 fun a_165 n_166 f_167 => vp_in x_164 n_166 ∧ ∀ x_168 : Int32, x_168 = f_167 x_164.toNatClampNeg →
  (zpt g hp_144 (some h0) [5] 31 (.int x_168) fun hp_172 =>
  (zgR hp_172 (some h0) [5] 22 fun r_176 =>
  (zgI hp_172 (some h0) [5] 18 fun x_180 =>
  (zaR (g.2.1 14) hp_172 r_176 fun a_181 n_182 f_183 => vp_in x_180 n_182 ∧ ∀ r_184 : Option Nat, r_184 = f_183 x_180.toNatClampNeg →
  (zgR hp_172 (some h0) [5] 7 fun r_188 =>
  (zaI (g.2.1 0) hp_172 r_188 fun a_189 n_190 f_191 => vp_in x1 n_190 ∧ ∀ x_192 : Int32, x_192 = f_191 x1.toNatClampNeg →
  (zaI (g.2.1 0) hp_172 r_184 fun a_193 n_194 f_195 => vp_in x_192 n_194 ∧ ∀ x_196 : Int32, x_196 = f_195 x_192.toNatClampNeg →
  (zpt g hp_172 (some h0) [5] 32 (.int x_196) fun hp_200 =>
  (zgI hp_200 (some h0) [5] 18 fun x_204 =>
  (zpt g hp_200 (some h0) [5] 18 (.int (x_204 - (1 : Int32))) fun hp_208 =>
  (zgR hp_208 (some h0) [5] 2 fun r_212 =>
  (zaD (g.2.1 1) hp_208 r_212 fun a_213 n_214 f_215 => vp_in x_62 n_214 ∧ zB g ≤ a_213 ∧ ∀ hp_216 : zHp, hp_216 = va_up hp_208 a_213 (some (.inl (g.2.1 1, n_214, .inr (.inr (.inr (.inl (va_up f_215 x_62.toNatClampNeg x_64))))))) →
  (zgR hp_216 (some h0) [5] 1 fun r_220 =>
  (zaI (g.2.1 3) hp_216 r_220 fun a_221 n_222 f_223 => vp_in x_62 n_222 ∧ zB g ≤ a_221 ∧ ∀ hp_224 : zHp, hp_224 = va_up hp_216 a_221 (some (.inl (g.2.1 3, n_222, .inl (va_up f_223 x_62.toNatClampNeg (vp_nar .boolean x_66))))) →
  (zgR hp_224 (some h0) [5] 2 fun r_228 =>
  (zaD (g.2.1 1) hp_224 r_228 fun a_229 n_230 f_231 => vp_in x_61 n_230 ∧ zB g ≤ a_229 ∧ ∀ hp_232 : zHp, hp_232 = va_up hp_224 a_229 (some (.inl (g.2.1 1, n_230, .inr (.inr (.inr (.inl (va_up f_231 x_61.toNatClampNeg x_63))))))) →
  (zgR hp_232 (some h0) [5] 1 fun r_236 =>
  (zaI (g.2.1 3) hp_232 r_236 fun a_237 n_238 f_239 => vp_in x_61 n_238 ∧ zB g ≤ a_237 ∧ ∀ hp_240 : zHp, hp_240 = va_up hp_232 a_237 (some (.inl (g.2.1 3, n_238, .inl (va_up f_239 x_61.toNatClampNeg (vp_nar .boolean x_65))))) →
  (Post hp_240 nx_116)))))))))))))))))))))))))))))))))))))))))))))))) ∧
  ((x_60 = (-1 : Int32) →
  P_104 x_17 x_18 x_28 x_36 x_44 x_52 hp_19 nx_20) ∧
  (¬ x_60 = (-1 : Int32) →
  (zgR hp_19 (some h0) [5] 2 fun r_250 =>
  (zgR hp_19 (some h0) [5] 11 fun r_254 =>
  (zaR (g.2.1 15) hp_19 r_254 fun a_255 n_256 f_257 => vp_in (((2 : Int32) * x1) + (1 : Int32)) n_256 ∧ ∀ r_258 : Option Nat, r_258 = f_257 (((2 : Int32) * x1) + (1 : Int32)).toNatClampNeg →
  (zaD (g.2.1 1) hp_19 r_258 fun a_259 n_260 f_261 => vp_in x3 n_260 ∧ ∀ x_262 : UInt64, x_262 = f_261 x3.toNatClampNeg →
  (zaD (g.2.1 1) hp_19 r_250 fun a_263 n_264 f_265 => vp_in x_18 n_264 ∧ zB g ≤ a_263 ∧ ∀ hp_266 : zHp, hp_266 = va_up hp_19 a_263 (some (.inl (g.2.1 1, n_264, .inr (.inr (.inr (.inl (va_up f_265 x_18.toNatClampNeg x_262))))))) →
  (zgR hp_266 (some h0) [5] 1 fun r_270 =>
  (zaI (g.2.1 3) hp_266 r_270 fun a_271 n_272 f_273 => vp_in x_18 n_272 ∧ zB g ≤ a_271 ∧ ∀ hp_274 : zHp, hp_274 = va_up hp_266 a_271 (some (.inl (g.2.1 3, n_272, .inl (va_up f_273 x_18.toNatClampNeg (vp_nar .boolean (1 : Int32)))))) →
  P_104 x_17 x_18 x_28 x_36 x_44 x_52 hp_274 nx_20))))))))))))))))))))) ∧
  ((x_16 = (-1 : Int32) →
  P_29 x_8 x_8 hp nx) ∧
  (¬ x_16 = (-1 : Int32) →
  (zgR hp (some h0) [5] 9 fun r_278 =>
  (zaI (g.2.1 0) hp r_278 fun a_279 n_280 f_281 => vp_in x1 n_280 ∧ ∀ x_282 : Int32, x_282 = f_281 x1.toNatClampNeg →
  P_29 x_8 x_282 hp nx)))))))))
set_option maxHeartbeats 40000000 in
theorem met_X5_tellCase {l : Launch} {g : zG} {d : Nat} {h0 : Nat} {x1 : Int32} {x2 : Int32} {x3 : Int32} {hp : zHp} {nx : Nat} {Post : zHp → Nat → Prop} (hw : wp_X5_tellCase l g d h0 x1 x2 x3 hp nx Post) : zMt l g yX5_tellCase cX5_tellCase 12 none (d + 1) 0 0 [.ref h0, .int x1, .int x2, .int x3] hp nx (zQv g Post) := by
  refine z_start (by decide) (Nat.le_of_ble_eq_true rfl) ?_
  intro p e s m below meth c hk hr hin hH hz ls hl
  have hx := hk.1.1
  have hb := hk.1.2.1
  have hown := hk.1.2.2.2.1
  have hts := hk.1.2.2.2.2
  have hS : va_S (zAd g) s.heap s.heap [] := va_S.rf
  have hl : lv_has ls 12 [(0, va_rf (some h0)), (1, .int x1), (2, .int x2), (3, .int x3)] := hl
  unfold wp_X5_tellCase at hw
  refine zr_aload_n (r := some h0) hx hb dX5_tellCase_0 rfl (lv_at hl 0 rfl) ?_
  obtain ⟨a_1, ci_2, fs_3, r_4, er, he, hc, hv, hw⟩ := zgR_e hw
  refine zw_get hk hH er he hv (fk_X5_40 hc) dX5_tellCase_1 ?_
  refine lv_iload_n hx hb dX5_tellCase_4 rfl (lv_at hl 1 rfl) ?_
  obtain ⟨a_5, n_6, f_7, er, he, hi, hw⟩ := zaI_e hw
  have hw := hw _ rfl
  refine zw_iald hk hH er he hi dX5_tellCase_5 ?_
  generalize f_7 x1.toNatClampNeg = x_8 at hw ⊢
  refine lv_istore (lv' := [(4, .int x_8), (0, va_rf (some h0)), (1, .int x1), (2, .int x2), (3, .int x3)]) hx hb dX5_tellCase_6 hl (by decide) (by first | rfl | simp [List.filter_cons, z_cat, z_catI, z_catJ, z_catF, z_catD]) (fun ls hl => ?_)
  refine zr_aload_n (r := some h0) hx hb dX5_tellCase_8 rfl (lv_at hl 1 rfl) ?_
  obtain ⟨a_9, ci_10, fs_11, r_12, er, he, hc, hv, hw⟩ := zgR_e hw
  refine zw_get hk hH er he hv (fk_X5_43 hc) dX5_tellCase_9 ?_
  refine lv_iload_n hx hb dX5_tellCase_12 rfl (lv_at hl 2 rfl) ?_
  obtain ⟨a_13, n_14, f_15, er, he, hi, hw⟩ := zaI_e hw
  have hw := hw _ rfl
  refine zw_iald hk hH er he hi dX5_tellCase_13 ?_
  generalize f_15 x1.toNatClampNeg = x_16 at hw ⊢
  refine lv_iconst (v := (-1 : Int32)) hx hb dX5_tellCase_14 (by decide) ?_
  obtain ⟨P_29, hP_29, hw⟩ := hw
  have hJ_29 : ∀ (x_17 : Int32) (x_18 : Int32) (hp_19 : zHp) (nx_20 : Nat) (H : Heap) (locs : List Loc) (ls : Array Slot), P_29 x_17 x_18 hp_19 nx_20 → lv_has ls 12 [(0, va_rf (some h0)), (1, .int x1), (2, .int x2), (3, .int x3), (4, .int x_17)] → zHd g hp_19 H → H.size = nx_20 → va_S (zAd g) s.heap H locs → W p l e (zrm (d + 1) 0 0) s m ([.ref h0, .int x1, .int x2, .int x3] : List Value).toArray below meth c H locs 0 0 (MQ below (zQv g Post) ([.ref h0, .int x1, .int x2, .int x3] : List Value).toArray s 0 0 (zAd g)) (F0 m 29 ls [.int x_18]) := by
    intro x_17 x_18 hp_19 nx_20 H locs ls hw hl hH hz hS
    have hw := hP_29 x_17 x_18 hp_19 nx_20 hw
    refine lv_istore (lv' := [(5, .int x_18), (0, va_rf (some h0)), (1, .int x1), (2, .int x2), (3, .int x3), (4, .int x_17)]) hx hb dX5_tellCase_29 hl (by decide) (by first | rfl | simp [List.filter_cons, z_cat, z_catI, z_catJ, z_catF, z_catD]) (fun ls hl => ?_)
    refine zr_aload_n (r := some h0) hx hb dX5_tellCase_31 rfl (lv_at hl 1 rfl) ?_
    obtain ⟨a_21, ci_22, fs_23, r_24, er, he, hc, hv, hw⟩ := zgR_e hw
    refine zw_get hk hH er he hv (fk_X5_17 hc) dX5_tellCase_32 ?_
    refine lv_iload hx hb dX5_tellCase_35 (lv_at hl 5 rfl) ?_
    obtain ⟨a_25, n_26, f_27, er, he, hi, hw⟩ := zaD_e hw
    have hw := hw _ rfl
    refine zw_dald hk hH er he hi dX5_tellCase_37 ?_
    generalize f_27 x_17.toNatClampNeg = x_28 at hw ⊢
    refine lv_dstore (lv' := [(6, .double x_28), (5, .int x_18), (0, va_rf (some h0)), (1, .int x1), (2, .int x2), (3, .int x3), (4, .int x_17)]) hx hb dX5_tellCase_38 hl (by decide) (by first | rfl | simp [List.filter_cons, z_cat, z_catI, z_catJ, z_catF, z_catD]) (fun ls hl => ?_)
    refine zr_aload_n (r := some h0) hx hb dX5_tellCase_40 rfl (lv_at hl 2 rfl) ?_
    obtain ⟨a_29, ci_30, fs_31, r_32, er, he, hc, hv, hw⟩ := zgR_e hw
    refine zw_get hk hH er he hv (fk_X5_17 hc) dX5_tellCase_41 ?_
    refine lv_iload hx hb dX5_tellCase_44 (lv_at hl 1 rfl) ?_
    obtain ⟨a_33, n_34, f_35, er, he, hi, hw⟩ := zaD_e hw
    have hw := hw _ rfl
    refine zw_dald hk hH er he hi dX5_tellCase_46 ?_
    generalize f_35 x_18.toNatClampNeg = x_36 at hw ⊢
    refine lv_dstore (lv' := [(8, .double x_36), (6, .double x_28), (5, .int x_18), (0, va_rf (some h0)), (1, .int x1), (2, .int x2), (3, .int x3), (4, .int x_17)]) hx hb dX5_tellCase_47 hl (by decide) (by first | rfl | simp [List.filter_cons, z_cat, z_catI, z_catJ, z_catF, z_catD]) (fun ls hl => ?_)
    refine zr_aload_n (r := some h0) hx hb dX5_tellCase_49 rfl (lv_at hl 3 rfl) ?_
    obtain ⟨a_37, ci_38, fs_39, r_40, er, he, hc, hv, hw⟩ := zgR_e hw
    refine zw_get hk hH er he hv (fk_X5_13 hc) dX5_tellCase_50 ?_
    refine lv_iload hx hb dX5_tellCase_53 (lv_at hl 7 rfl) ?_
    obtain ⟨a_41, n_42, f_43, er, he, hi, hw⟩ := zaI_e hw
    have hw := hw _ rfl
    refine zw_zald hk hH er he hi dX5_tellCase_55 ?_
    generalize f_43 x_17.toNatClampNeg = x_44 at hw ⊢
    refine lv_istore (lv' := [(10, .int x_44), (8, .double x_36), (6, .double x_28), (5, .int x_18), (0, va_rf (some h0)), (1, .int x1), (2, .int x2), (3, .int x3), (4, .int x_17)]) hx hb dX5_tellCase_56 hl (by decide) (by first | rfl | simp [List.filter_cons, z_cat, z_catI, z_catJ, z_catF, z_catD]) (fun ls hl => ?_)
    refine zr_aload_n (r := some h0) hx hb dX5_tellCase_58 rfl (lv_at hl 4 rfl) ?_
    obtain ⟨a_45, ci_46, fs_47, r_48, er, he, hc, hv, hw⟩ := zgR_e hw
    refine zw_get hk hH er he hv (fk_X5_13 hc) dX5_tellCase_59 ?_
    refine lv_iload hx hb dX5_tellCase_62 (lv_at hl 3 rfl) ?_
    obtain ⟨a_49, n_50, f_51, er, he, hi, hw⟩ := zaI_e hw
    have hw := hw _ rfl
    refine zw_zald hk hH er he hi dX5_tellCase_64 ?_
    generalize f_51 x_18.toNatClampNeg = x_52 at hw ⊢
    refine lv_istore (lv' := [(11, .int x_52), (10, .int x_44), (8, .double x_36), (6, .double x_28), (5, .int x_18), (0, va_rf (some h0)), (1, .int x1), (2, .int x2), (3, .int x3), (4, .int x_17)]) hx hb dX5_tellCase_65 hl (by decide) (by first | rfl | simp [List.filter_cons, z_cat, z_catI, z_catJ, z_catF, z_catD]) (fun ls hl => ?_)
    refine zr_aload_n (r := some h0) hx hb dX5_tellCase_67 rfl (lv_at hl 5 rfl) ?_
    obtain ⟨a_53, ci_54, fs_55, r_56, er, he, hc, hv, hw⟩ := zgR_e hw
    refine zw_get hk hH er he hv (fk_X5_43 hc) dX5_tellCase_68 ?_
    refine lv_iload_n hx hb dX5_tellCase_71 rfl (lv_at hl 6 rfl) ?_
    obtain ⟨a_57, n_58, f_59, er, he, hi, hw⟩ := zaI_e hw
    have hw := hw _ rfl
    refine zw_iald hk hH er he hi dX5_tellCase_72 ?_
    generalize f_59 x1.toNatClampNeg = x_60 at hw ⊢
    refine lv_iconst (v := (-1 : Int32)) hx hb dX5_tellCase_73 (by decide) ?_
    obtain ⟨P_104, hP_104, hw⟩ := hw
    have hJ_104 : ∀ (x_61 : Int32) (x_62 : Int32) (x_63 : UInt64) (x_64 : UInt64) (x_65 : Int32) (x_66 : Int32) (hp_67 : zHp) (nx_68 : Nat) (H : Heap) (locs : List Loc) (ls : Array Slot), P_104 x_61 x_62 x_63 x_64 x_65 x_66 hp_67 nx_68 → lv_has ls 12 [(0, va_rf (some h0)), (1, .int x1), (2, .int x2), (3, .int x3), (4, .int x_61), (5, .int x_62), (6, .double x_63), (8, .double x_64), (10, .int x_65), (11, .int x_66)] → zHd g hp_67 H → H.size = nx_68 → va_S (zAd g) s.heap H locs → W p l e (zrm (d + 1) 0 0) s m ([.ref h0, .int x1, .int x2, .int x3] : List Value).toArray below meth c H locs 0 0 (MQ below (zQv g Post) ([.ref h0, .int x1, .int x2, .int x3] : List Value).toArray s 0 0 (zAd g)) (F0 m 104 ls []) := by
      intro x_61 x_62 x_63 x_64 x_65 x_66 hp_67 nx_68 H locs ls hw hl hH hz hS
      have hw := hP_104 x_61 x_62 x_63 x_64 x_65 x_66 hp_67 nx_68 hw
      refine zr_aload_n (r := some h0) hx hb dX5_tellCase_104 rfl (lv_at hl 0 rfl) ?_
      obtain ⟨a_69, ci_70, fs_71, r_72, er, he, hc, hv, hw⟩ := zgR_e hw
      refine zw_get hk hH er he hv (fk_X5_17 hc) dX5_tellCase_105 ?_
      refine lv_iload hx hb dX5_tellCase_108 (lv_at hl 4 rfl) ?_
      refine zr_aload_n (r := some h0) hx hb dX5_tellCase_110 rfl (lv_at hl 0 rfl) ?_
      obtain ⟨a_73, ci_74, fs_75, r_76, er, he, hc, hv, hw⟩ := zgR_e hw
      refine zw_get hk hH er he hv (fk_X5_49 hc) dX5_tellCase_111 ?_
      refine lv_iconst (v := (2 : Int32)) hx hb dX5_tellCase_114 (by decide) ?_
      refine lv_iload_n hx hb dX5_tellCase_115 rfl (lv_at hl 1 rfl) ?_
      refine lv_imul hx hb dX5_tellCase_116 ?_
      obtain ⟨a_77, n_78, f_79, er, he, hi, hw⟩ := zaR_e hw
      have hw := hw _ rfl
      refine zw_aald hk hH 15 er he rfl rfl hi dX5_tellCase_117 ?_
      generalize f_79 ((2 : Int32) * x1).toNatClampNeg = r_80 at hw ⊢
      refine lv_iload_n hx hb dX5_tellCase_118 rfl (lv_at hl 2 rfl) ?_
      obtain ⟨a_81, n_82, f_83, er, he, hi, hw⟩ := zaD_e hw
      have hw := hw _ rfl
      refine zw_dald hk hH er he hi dX5_tellCase_119 ?_
      generalize f_83 x2.toNatClampNeg = x_84 at hw ⊢
      obtain ⟨a_85, n_86, f_87, er, he, hi, hA, hw⟩ := zaD_e hw
      obtain ⟨hp_88, eh⟩ : ∃ y : zHp, y = va_up hp_67 a_85 (some (.inl (g.2.1 1, n_86, .inr (.inr (.inr (.inl (va_up f_87 x_61.toNatClampNeg x_84))))))) := ⟨_, rfl⟩
      have hw := hw hp_88 eh
      refine zw_dast hk hH hz hS er he hi hA eh dX5_tellCase_120 (fun H locs hH hz hS => ?_)
      refine zr_aload_n (r := some h0) hx hb dX5_tellCase_121 rfl (lv_at hl 0 rfl) ?_
      obtain ⟨a_89, ci_90, fs_91, r_92, er, he, hc, hv, hw⟩ := zgR_e hw
      refine zw_get hk hH er he hv (fk_X5_13 hc) dX5_tellCase_122 ?_
      refine lv_iload hx hb dX5_tellCase_125 (lv_at hl 4 rfl) ?_
      refine lv_iconst (v := (1 : Int32)) hx hb dX5_tellCase_127 (by decide) ?_
      obtain ⟨a_93, n_94, f_95, er, he, hi, hA, hw⟩ := zaI_e hw
      obtain ⟨hp_96, eh⟩ : ∃ y : zHp, y = va_up hp_88 a_93 (some (.inl (g.2.1 3, n_94, .inl (va_up f_95 x_61.toNatClampNeg (vp_nar .boolean (1 : Int32)))))) := ⟨_, rfl⟩
      have hw := hw hp_96 eh
      refine zw_zast hk hH hz hS er he hi hA eh dX5_tellCase_128 (fun H locs hH hz hS => ?_)
      refine zr_aload_n (r := some h0) hx hb dX5_tellCase_129 rfl (lv_at hl 0 rfl) ?_
      refine lv_dup hx hb dX5_tellCase_130 (z_cat _) ?_
      obtain ⟨a_97, ci_98, fs_99, x_100, er, he, hc, hv, hw⟩ := zgI_e hw
      refine zw_get hk hH er he hv (fk_X5_247 hc) dX5_tellCase_131 ?_
      refine lv_iconst (v := (1 : Int32)) hx hb dX5_tellCase_134 (by decide) ?_
      refine lv_iadd hx hb dX5_tellCase_135 ?_
      obtain ⟨a_101, ci_102, fs_103, hp_104, er, he, hc, hA, hkl, eh, hw⟩ := zpt_e hw
      refine zw_put hk hH hz hS er he hA hkl eh (fp_X5_247 hc) rfl rfl dX5_tellCase_136 (fun H locs hH hz hS => ?_)
      refine zr_aload_n (r := some h0) hx hb dX5_tellCase_139 rfl (lv_at hl 0 rfl) ?_
      obtain ⟨a_244, ci_245, fs_246, er, he, hc, hw⟩ := zo_e hw
      obtain rfl := List.mem_singleton.mp hc
      refine zr_callv (zw_runV (As := []) hk hH hz hS hl.1 er hw (cwV 0 hts (lw_V q2999 q3001 qs82 q162 q3002) rfl rfl rfl (by decide +kernel) (z_room (Nat.le_of_ble_eq_true rfl))) he rfl rfl rfl (Nat.le_of_ble_eq_true rfl) dX5_tellCase_140 ⟨Nat.le_of_ble_eq_true rfl, Nat.le_of_ble_eq_true rfl⟩) hS (fun hp_105 nx_106 hw H locs hH hz hS => ?_)
      refine zr_aload_n (r := some h0) hx hb dX5_tellCase_143 rfl (lv_at hl 0 rfl) ?_
      refine zr_aload_n (r := some h0) hx hb dX5_tellCase_144 rfl (lv_at hl 0 rfl) ?_
      obtain ⟨a_107, ci_108, fs_109, r_110, er, he, hc, hv, hw⟩ := zgR_e hw
      refine zw_get hk hH er he hv (fk_X5_37 hc) dX5_tellCase_145 ?_
      refine lv_iload_n hx hb dX5_tellCase_148 rfl (lv_at hl 1 rfl) ?_
      obtain ⟨a_111, n_112, f_113, er, he, hi, hw⟩ := zaI_e hw
      have hw := hw _ rfl
      refine zw_iald hk hH er he hi dX5_tellCase_149 ?_
      generalize f_113 x1.toNatClampNeg = x_114 at hw ⊢
      obtain ⟨a_241, ci_242, fs_243, er, he, hc, hw⟩ := zo_e hw
      obtain rfl := List.mem_singleton.mp hc
      refine zr_callv (zw_runV (As := [.int x_114]) hk hH hz hS hl.1 er hw (cwV 1 hts (lw_V q3003 q3005 qs83 q162 q3006) rfl rfl rfl (by decide +kernel) (z_room (Nat.le_of_ble_eq_true rfl))) he rfl rfl rfl (Nat.le_of_ble_eq_true rfl) dX5_tellCase_150 ⟨Nat.le_of_ble_eq_true rfl, Nat.le_of_ble_eq_true rfl⟩) hS (fun hp_115 nx_116 hw H locs hH hz hS => ?_)
      refine zr_aload_n (r := some h0) hx hb dX5_tellCase_153 rfl (lv_at hl 0 rfl) ?_
      refine zr_aload_n (r := some h0) hx hb dX5_tellCase_154 rfl (lv_at hl 0 rfl) ?_
      obtain ⟨a_117, ci_118, fs_119, r_120, er, he, hc, hv, hw⟩ := zgR_e hw
      refine zw_get hk hH er he hv (fk_X5_75 hc) dX5_tellCase_155 ?_
      refine zr_aload_n (r := some h0) hx hb dX5_tellCase_158 rfl (lv_at hl 0 rfl) ?_
      obtain ⟨a_121, ci_122, fs_123, x_124, er, he, hc, hv, hw⟩ := zgI_e hw
      refine zw_get hk hH er he hv (fk_X5_247 hc) dX5_tellCase_159 ?_
      obtain ⟨a_125, n_126, f_127, er, he, hi, hw⟩ := zaR_e hw
      have hw := hw _ rfl
      refine zw_aald hk hH 15 er he rfl rfl hi dX5_tellCase_162 ?_
      generalize f_127 x_124.toNatClampNeg = r_128 at hw ⊢
      refine zr_aload_n (r := some h0) hx hb dX5_tellCase_163 rfl (lv_at hl 0 rfl) ?_
      obtain ⟨a_129, ci_130, fs_131, r_132, er, he, hc, hv, hw⟩ := zgR_e hw
      refine zw_get hk hH er he hv (fk_X5_37 hc) dX5_tellCase_164 ?_
      refine lv_iload_n hx hb dX5_tellCase_167 rfl (lv_at hl 1 rfl) ?_
      obtain ⟨a_133, n_134, f_135, er, he, hi, hw⟩ := zaI_e hw
      have hw := hw _ rfl
      refine zw_iald hk hH er he hi dX5_tellCase_168 ?_
      generalize f_135 x1.toNatClampNeg = x_136 at hw ⊢
      obtain ⟨a_137, n_138, f_139, er, he, hi, hw⟩ := zaD_e hw
      have hw := hw _ rfl
      refine zw_dald hk hH er he hi dX5_tellCase_169 ?_
      generalize f_139 x_136.toNatClampNeg = x_140 at hw ⊢
      obtain ⟨a_141, ci_142, fs_143, hp_144, er, he, hc, hA, hkl, eh, hw⟩ := zpt_e hw
      refine zw_put hk hH hz hS er he hA hkl eh (fp_X5_282 hc) rfl rfl dX5_tellCase_170 (fun H locs hH hz hS => ?_)
      refine zr_aload_n (r := some h0) hx hb dX5_tellCase_173 rfl (lv_at hl 0 rfl) ?_
      refine zr_aload_n (r := some h0) hx hb dX5_tellCase_174 rfl (lv_at hl 0 rfl) ?_
      obtain ⟨a_145, ci_146, fs_147, r_148, er, he, hc, hv, hw⟩ := zgR_e hw
      refine zw_get hk hH er he hv (fk_X5_78 hc) dX5_tellCase_175 ?_
      refine zr_aload_n (r := some h0) hx hb dX5_tellCase_178 rfl (lv_at hl 0 rfl) ?_
      obtain ⟨a_149, ci_150, fs_151, x_152, er, he, hc, hv, hw⟩ := zgI_e hw
      refine zw_get hk hH er he hv (fk_X5_247 hc) dX5_tellCase_179 ?_
      obtain ⟨a_153, n_154, f_155, er, he, hi, hw⟩ := zaR_e hw
      have hw := hw _ rfl
      refine zw_aald hk hH 14 er he rfl rfl hi dX5_tellCase_182 ?_
      generalize f_155 x_152.toNatClampNeg = r_156 at hw ⊢
      refine zr_aload_n (r := some h0) hx hb dX5_tellCase_183 rfl (lv_at hl 0 rfl) ?_
      obtain ⟨a_157, ci_158, fs_159, r_160, er, he, hc, hv, hw⟩ := zgR_e hw
      refine zw_get hk hH er he hv (fk_X5_37 hc) dX5_tellCase_184 ?_
      refine lv_iload_n hx hb dX5_tellCase_187 rfl (lv_at hl 1 rfl) ?_
      obtain ⟨a_161, n_162, f_163, er, he, hi, hw⟩ := zaI_e hw
      have hw := hw _ rfl
      refine zw_iald hk hH er he hi dX5_tellCase_188 ?_
      generalize f_163 x1.toNatClampNeg = x_164 at hw ⊢
      obtain ⟨a_165, n_166, f_167, er, he, hi, hw⟩ := zaI_e hw
      have hw := hw _ rfl
      refine zw_iald hk hH er he hi dX5_tellCase_189 ?_
      generalize f_167 x_164.toNatClampNeg = x_168 at hw ⊢
      obtain ⟨a_169, ci_170, fs_171, hp_172, er, he, hc, hA, hkl, eh, hw⟩ := zpt_e hw
      refine zw_put hk hH hz hS er he hA hkl eh (fp_X5_286 hc) rfl rfl dX5_tellCase_190 (fun H locs hH hz hS => ?_)
      refine zr_aload_n (r := some h0) hx hb dX5_tellCase_193 rfl (lv_at hl 0 rfl) ?_
      refine zr_aload_n (r := some h0) hx hb dX5_tellCase_194 rfl (lv_at hl 0 rfl) ?_
      obtain ⟨a_173, ci_174, fs_175, r_176, er, he, hc, hv, hw⟩ := zgR_e hw
      refine zw_get hk hH er he hv (fk_X5_81 hc) dX5_tellCase_195 ?_
      refine zr_aload_n (r := some h0) hx hb dX5_tellCase_198 rfl (lv_at hl 0 rfl) ?_
      obtain ⟨a_177, ci_178, fs_179, x_180, er, he, hc, hv, hw⟩ := zgI_e hw
      refine zw_get hk hH er he hv (fk_X5_247 hc) dX5_tellCase_199 ?_
      obtain ⟨a_181, n_182, f_183, er, he, hi, hw⟩ := zaR_e hw
      have hw := hw _ rfl
      refine zw_aald hk hH 14 er he rfl rfl hi dX5_tellCase_202 ?_
      generalize f_183 x_180.toNatClampNeg = r_184 at hw ⊢
      refine zr_aload_n (r := some h0) hx hb dX5_tellCase_203 rfl (lv_at hl 0 rfl) ?_
      obtain ⟨a_185, ci_186, fs_187, r_188, er, he, hc, hv, hw⟩ := zgR_e hw
      refine zw_get hk hH er he hv (fk_X5_37 hc) dX5_tellCase_204 ?_
      refine lv_iload_n hx hb dX5_tellCase_207 rfl (lv_at hl 1 rfl) ?_
      obtain ⟨a_189, n_190, f_191, er, he, hi, hw⟩ := zaI_e hw
      have hw := hw _ rfl
      refine zw_iald hk hH er he hi dX5_tellCase_208 ?_
      generalize f_191 x1.toNatClampNeg = x_192 at hw ⊢
      obtain ⟨a_193, n_194, f_195, er, he, hi, hw⟩ := zaI_e hw
      have hw := hw _ rfl
      refine zw_iald hk hH er he hi dX5_tellCase_209 ?_
      generalize f_195 x_192.toNatClampNeg = x_196 at hw ⊢
      obtain ⟨a_197, ci_198, fs_199, hp_200, er, he, hc, hA, hkl, eh, hw⟩ := zpt_e hw
      refine zw_put hk hH hz hS er he hA hkl eh (fp_X5_289 hc) rfl rfl dX5_tellCase_210 (fun H locs hH hz hS => ?_)
      refine zr_aload_n (r := some h0) hx hb dX5_tellCase_213 rfl (lv_at hl 0 rfl) ?_
      refine lv_dup hx hb dX5_tellCase_214 (z_cat _) ?_
      obtain ⟨a_201, ci_202, fs_203, x_204, er, he, hc, hv, hw⟩ := zgI_e hw
      refine zw_get hk hH er he hv (fk_X5_247 hc) dX5_tellCase_215 ?_
      refine lv_iconst (v := (1 : Int32)) hx hb dX5_tellCase_218 (by decide) ?_
      refine lv_isub hx hb dX5_tellCase_219 ?_
      obtain ⟨a_205, ci_206, fs_207, hp_208, er, he, hc, hA, hkl, eh, hw⟩ := zpt_e hw
      refine zw_put hk hH hz hS er he hA hkl eh (fp_X5_247 hc) rfl rfl dX5_tellCase_220 (fun H locs hH hz hS => ?_)
      refine zr_aload_n (r := some h0) hx hb dX5_tellCase_223 rfl (lv_at hl 0 rfl) ?_
      obtain ⟨a_209, ci_210, fs_211, r_212, er, he, hc, hv, hw⟩ := zgR_e hw
      refine zw_get hk hH er he hv (fk_X5_17 hc) dX5_tellCase_224 ?_
      refine lv_iload hx hb dX5_tellCase_227 (lv_at hl 5 rfl) ?_
      refine lv_dload hx hb dX5_tellCase_229 (lv_at hl 7 rfl) ?_
      obtain ⟨a_213, n_214, f_215, er, he, hi, hA, hw⟩ := zaD_e hw
      obtain ⟨hp_216, eh⟩ : ∃ y : zHp, y = va_up hp_208 a_213 (some (.inl (g.2.1 1, n_214, .inr (.inr (.inr (.inl (va_up f_215 x_62.toNatClampNeg x_64))))))) := ⟨_, rfl⟩
      have hw := hw hp_216 eh
      refine zw_dast hk hH hz hS er he hi hA eh dX5_tellCase_231 (fun H locs hH hz hS => ?_)
      refine zr_aload_n (r := some h0) hx hb dX5_tellCase_232 rfl (lv_at hl 0 rfl) ?_
      obtain ⟨a_217, ci_218, fs_219, r_220, er, he, hc, hv, hw⟩ := zgR_e hw
      refine zw_get hk hH er he hv (fk_X5_13 hc) dX5_tellCase_233 ?_
      refine lv_iload hx hb dX5_tellCase_236 (lv_at hl 5 rfl) ?_
      refine lv_iload hx hb dX5_tellCase_238 (lv_at hl 9 rfl) ?_
      obtain ⟨a_221, n_222, f_223, er, he, hi, hA, hw⟩ := zaI_e hw
      obtain ⟨hp_224, eh⟩ : ∃ y : zHp, y = va_up hp_216 a_221 (some (.inl (g.2.1 3, n_222, .inl (va_up f_223 x_62.toNatClampNeg (vp_nar .boolean x_66))))) := ⟨_, rfl⟩
      have hw := hw hp_224 eh
      refine zw_zast hk hH hz hS er he hi hA eh dX5_tellCase_240 (fun H locs hH hz hS => ?_)
      refine zr_aload_n (r := some h0) hx hb dX5_tellCase_241 rfl (lv_at hl 0 rfl) ?_
      obtain ⟨a_225, ci_226, fs_227, r_228, er, he, hc, hv, hw⟩ := zgR_e hw
      refine zw_get hk hH er he hv (fk_X5_17 hc) dX5_tellCase_242 ?_
      refine lv_iload hx hb dX5_tellCase_245 (lv_at hl 4 rfl) ?_
      refine lv_dload hx hb dX5_tellCase_247 (lv_at hl 6 rfl) ?_
      obtain ⟨a_229, n_230, f_231, er, he, hi, hA, hw⟩ := zaD_e hw
      obtain ⟨hp_232, eh⟩ : ∃ y : zHp, y = va_up hp_224 a_229 (some (.inl (g.2.1 1, n_230, .inr (.inr (.inr (.inl (va_up f_231 x_61.toNatClampNeg x_63))))))) := ⟨_, rfl⟩
      have hw := hw hp_232 eh
      refine zw_dast hk hH hz hS er he hi hA eh dX5_tellCase_249 (fun H locs hH hz hS => ?_)
      refine zr_aload_n (r := some h0) hx hb dX5_tellCase_250 rfl (lv_at hl 0 rfl) ?_
      obtain ⟨a_233, ci_234, fs_235, r_236, er, he, hc, hv, hw⟩ := zgR_e hw
      refine zw_get hk hH er he hv (fk_X5_13 hc) dX5_tellCase_251 ?_
      refine lv_iload hx hb dX5_tellCase_254 (lv_at hl 4 rfl) ?_
      refine lv_iload hx hb dX5_tellCase_256 (lv_at hl 8 rfl) ?_
      obtain ⟨a_237, n_238, f_239, er, he, hi, hA, hw⟩ := zaI_e hw
      obtain ⟨hp_240, eh⟩ : ∃ y : zHp, y = va_up hp_232 a_237 (some (.inl (g.2.1 3, n_238, .inl (va_up f_239 x_61.toNatClampNeg (vp_nar .boolean x_65))))) := ⟨_, rfl⟩
      have hw := hw hp_240 eh
      refine zw_zast hk hH hz hS er he hi hA eh dX5_tellCase_258 (fun H locs hH hz hS => ?_)
      exact zr_vret hk hr hH hz hS hw (Nat.le_of_ble_eq_true rfl) (Nat.le_of_ble_eq_true rfl) dX5_tellCase_259
    refine lv_icmp_eq (tgt := 104) hx hb dX5_tellCase_74 (by decide) (fun hc => ?_) (fun hc => ?_)
    · have hw := hw.1 hc
      exact hJ_104 x_17 x_18 x_28 x_36 x_44 x_52 hp_19 nx_20 _ _ _ hw (lv_sub hl [5, 6, 7, 8, 9, 4, 3, 2, 1, 0] rfl) hH hz hS
    · have hw := hw.2 hc
      refine zr_aload_n (r := some h0) hx hb dX5_tellCase_77 rfl (lv_at hl 5 rfl) ?_
      obtain ⟨a_247, ci_248, fs_249, r_250, er, he, hc, hv, hw⟩ := zgR_e hw
      refine zw_get hk hH er he hv (fk_X5_17 hc) dX5_tellCase_78 ?_
      refine lv_iload hx hb dX5_tellCase_81 (lv_at hl 4 rfl) ?_
      refine zr_aload_n (r := some h0) hx hb dX5_tellCase_83 rfl (lv_at hl 5 rfl) ?_
      obtain ⟨a_251, ci_252, fs_253, r_254, er, he, hc, hv, hw⟩ := zgR_e hw
      refine zw_get hk hH er he hv (fk_X5_49 hc) dX5_tellCase_84 ?_
      refine lv_iconst (v := (2 : Int32)) hx hb dX5_tellCase_87 (by decide) ?_
      refine lv_iload_n hx hb dX5_tellCase_88 rfl (lv_at hl 6 rfl) ?_
      refine lv_imul hx hb dX5_tellCase_89 ?_
      refine lv_iconst (v := (1 : Int32)) hx hb dX5_tellCase_90 (by decide) ?_
      refine lv_iadd hx hb dX5_tellCase_91 ?_
      obtain ⟨a_255, n_256, f_257, er, he, hi, hw⟩ := zaR_e hw
      have hw := hw _ rfl
      refine zw_aald hk hH 15 er he rfl rfl hi dX5_tellCase_92 ?_
      generalize f_257 (((2 : Int32) * x1) + (1 : Int32)).toNatClampNeg = r_258 at hw ⊢
      refine lv_iload_n hx hb dX5_tellCase_93 rfl (lv_at hl 8 rfl) ?_
      obtain ⟨a_259, n_260, f_261, er, he, hi, hw⟩ := zaD_e hw
      have hw := hw _ rfl
      refine zw_dald hk hH er he hi dX5_tellCase_94 ?_
      generalize f_261 x3.toNatClampNeg = x_262 at hw ⊢
      obtain ⟨a_263, n_264, f_265, er, he, hi, hA, hw⟩ := zaD_e hw
      obtain ⟨hp_266, eh⟩ : ∃ y : zHp, y = va_up hp_19 a_263 (some (.inl (g.2.1 1, n_264, .inr (.inr (.inr (.inl (va_up f_265 x_18.toNatClampNeg x_262))))))) := ⟨_, rfl⟩
      have hw := hw hp_266 eh
      refine zw_dast hk hH hz hS er he hi hA eh dX5_tellCase_95 (fun H locs hH hz hS => ?_)
      refine zr_aload_n (r := some h0) hx hb dX5_tellCase_96 rfl (lv_at hl 5 rfl) ?_
      obtain ⟨a_267, ci_268, fs_269, r_270, er, he, hc, hv, hw⟩ := zgR_e hw
      refine zw_get hk hH er he hv (fk_X5_13 hc) dX5_tellCase_97 ?_
      refine lv_iload hx hb dX5_tellCase_100 (lv_at hl 4 rfl) ?_
      refine lv_iconst (v := (1 : Int32)) hx hb dX5_tellCase_102 (by decide) ?_
      obtain ⟨a_271, n_272, f_273, er, he, hi, hA, hw⟩ := zaI_e hw
      obtain ⟨hp_274, eh⟩ : ∃ y : zHp, y = va_up hp_266 a_271 (some (.inl (g.2.1 3, n_272, .inl (va_up f_273 x_18.toNatClampNeg (vp_nar .boolean (1 : Int32)))))) := ⟨_, rfl⟩
      have hw := hw hp_274 eh
      refine zw_zast hk hH hz hS er he hi hA eh dX5_tellCase_103 (fun H locs hH hz hS => ?_)
      exact hJ_104 x_17 x_18 x_28 x_36 x_44 x_52 hp_274 nx_20 _ _ _ hw (lv_sub hl [5, 6, 7, 8, 9, 4, 3, 2, 1, 0] rfl) hH hz hS
  refine lv_icmp_ne (tgt := 23) hx hb dX5_tellCase_15 (by decide) (fun hc => ?_) (fun hc => ?_)
  · have hw := hw.2 hc
    refine zr_aload_n (r := some h0) hx hb dX5_tellCase_23 rfl (lv_at hl 1 rfl) ?_
    obtain ⟨a_275, ci_276, fs_277, r_278, er, he, hc, hv, hw⟩ := zgR_e hw
    refine zw_get hk hH er he hv (fk_X5_43 hc) dX5_tellCase_24 ?_
    refine lv_iload_n hx hb dX5_tellCase_27 rfl (lv_at hl 2 rfl) ?_
    obtain ⟨a_279, n_280, f_281, er, he, hi, hw⟩ := zaI_e hw
    have hw := hw _ rfl
    refine zw_iald hk hH er he hi dX5_tellCase_28 ?_
    generalize f_281 x1.toNatClampNeg = x_282 at hw ⊢
    exact hJ_29 x_8 x_282 hp nx _ _ _ hw (lv_sub hl [1, 2, 3, 4, 0] rfl) hH hz hS
  · have hw := hw.1 hc
    refine lv_iload hx hb dX5_tellCase_18 (lv_at hl 0 rfl) ?_
    refine lv_goto (tgt := 29) hx hb dX5_tellCase_20 (by decide) ?_
    exact hJ_29 x_8 x_8 hp nx _ _ _ hw (lv_sub hl [1, 2, 3, 4, 0] rfl) hH hz hS
def wp_X5_pick (l : Launch) (g : zG) (d : Nat) (h0 : Nat) (hp : zHp) (nx : Nat) (Post : zHp → Nat → Prop) : Prop :=
  (zgI hp (some h0) [5] 26 fun x_4 =>
  (zpt g hp (some h0) [5] 26 (.int (x_4 - (2 : Int32))) fun hp_8 =>
  (zgR hp_8 (some h0) [5] 28 fun r_12 =>
  (zgI hp_8 (some h0) [5] 26 fun x_16 =>
  (zaI (g.2.1 0) hp_8 r_12 fun a_17 n_18 f_19 => vp_in (x_16 - (1 : Int32)) n_18 ∧ ∀ x_20 : Int32, x_20 = f_19 (x_16 - (1 : Int32)).toNatClampNeg →
  (∃ P_62 : Int32 → zHp → Prop, (∀ (x_21 : Int32) (hp_22 : zHp), P_62 x_21 hp_22 →
  (zgR hp_22 (some h0) [5] 27 fun r_26 =>
  (zgI hp_22 (some h0) [5] 26 fun x_30 =>
  (zgR hp_22 (some h0) [5] 27 fun r_34 =>
  (zaD (g.2.1 1) hp_22 r_34 fun a_35 n_36 f_37 => vp_in x_21 n_36 ∧ ∀ x_38 : UInt64, x_38 = f_37 x_21.toNatClampNeg →
  (zaD (g.2.1 1) hp_22 r_26 fun a_39 n_40 f_41 => vp_in (x_30 - (1 : Int32)) n_40 ∧ zB g ≤ a_39 ∧ ∀ hp_42 : zHp, hp_42 = va_up hp_22 a_39 (some (.inl (g.2.1 1, n_40, .inr (.inr (.inr (.inl (va_up f_41 (x_30 - (1 : Int32)).toNatClampNeg x_38))))))) →
  (zgR hp_42 (some h0) [5] 28 fun r_46 =>
  (zgI hp_42 (some h0) [5] 26 fun x_50 =>
  (zgR hp_42 (some h0) [5] 28 fun r_54 =>
  (zaI (g.2.1 0) hp_42 r_54 fun a_55 n_56 f_57 => vp_in x_21 n_56 ∧ ∀ x_58 : Int32, x_58 = f_57 x_21.toNatClampNeg →
  (zaI (g.2.1 0) hp_42 r_46 fun a_59 n_60 f_61 => vp_in (x_50 - (1 : Int32)) n_60 ∧ zB g ≤ a_59 ∧ ∀ hp_62 : zHp, hp_62 = va_up hp_42 a_59 (some (.inl (g.2.1 0, n_60, .inl (va_up f_61 (x_50 - (1 : Int32)).toNatClampNeg x_58)))) →
  (zgR hp_62 (some h0) [5] 29 fun r_66 =>
  (zgI hp_62 (some h0) [5] 26 fun x_70 =>
  (zgR hp_62 (some h0) [5] 29 fun r_74 =>
  (zaI (g.2.1 0) hp_62 r_74 fun a_75 n_76 f_77 => vp_in x_21 n_76 ∧ ∀ x_78 : Int32, x_78 = f_77 x_21.toNatClampNeg →
  (zaI (g.2.1 0) hp_62 r_66 fun a_79 n_80 f_81 => vp_in (x_70 - (1 : Int32)) n_80 ∧ zB g ≤ a_79 ∧ ∀ hp_82 : zHp, hp_82 = va_up hp_62 a_79 (some (.inl (g.2.1 0, n_80, .inl (va_up f_81 (x_70 - (1 : Int32)).toNatClampNeg x_78)))) →
  (Post hp_82 nx))))))))))))))))) ∧
  ((x_20 = 0 →
  (zgR hp_8 (some h0) [5] 27 fun r_86 =>
  (zgI hp_8 (some h0) [5] 26 fun x_90 =>
  (zaD (g.2.1 1) hp_8 r_86 fun a_91 n_92 f_93 => vp_in (x_90 - (1 : Int32)) n_92 ∧ ∀ x_94 : UInt64, x_94 = f_93 (x_90 - (1 : Int32)).toNatClampNeg →
  (((Op.cmpValue (FP.dcmp x_94 FP.dconst0) .l) = 0 →
  (zgI hp_8 (some h0) [5] 26 fun x_98 =>
  P_62 (x_98 + (1 : Int32)) hp_8)) ∧
  (¬ (Op.cmpValue (FP.dcmp x_94 FP.dconst0) .l) = 0 →
  (zgI hp_8 (some h0) [5] 26 fun x_102 =>
  P_62 x_102 hp_8))))))) ∧
  (¬ x_20 = 0 →
  (zgI hp_8 (some h0) [5] 26 fun x_106 =>
  P_62 (x_106 - (1 : Int32)) hp_8)))))))))
set_option maxHeartbeats 40000000 in
theorem met_X5_pick {l : Launch} {g : zG} {d : Nat} {h0 : Nat} {hp : zHp} {nx : Nat} {Post : zHp → Nat → Prop} (hw : wp_X5_pick l g d h0 hp nx Post) : zMt l g yX5_pick cX5_pick 2 none (d + 1) 0 0 [.ref h0] hp nx (zQv g Post) := by
  refine z_start (by decide) (Nat.le_of_ble_eq_true rfl) ?_
  intro p e s m below meth c hk hr hin hH hz ls hl
  have hx := hk.1.1
  have hb := hk.1.2.1
  have hown := hk.1.2.2.2.1
  have hts := hk.1.2.2.2.2
  have hS : va_S (zAd g) s.heap s.heap [] := va_S.rf
  have hl : lv_has ls 2 [(0, va_rf (some h0))] := hl
  unfold wp_X5_pick at hw
  refine zr_aload_n (r := some h0) hx hb dX5_pick_0 rfl (lv_at hl 0 rfl) ?_
  refine lv_dup hx hb dX5_pick_1 (z_cat _) ?_
  obtain ⟨a_1, ci_2, fs_3, x_4, er, he, hc, hv, hw⟩ := zgI_e hw
  refine zw_get hk hH er he hv (fk_X5_243 hc) dX5_pick_2 ?_
  refine lv_iconst (v := (2 : Int32)) hx hb dX5_pick_5 (by decide) ?_
  refine lv_isub hx hb dX5_pick_6 ?_
  obtain ⟨a_5, ci_6, fs_7, hp_8, er, he, hc, hA, hkl, eh, hw⟩ := zpt_e hw
  refine zw_put hk hH hz hS er he hA hkl eh (fp_X5_243 hc) rfl rfl dX5_pick_7 (fun H locs hH hz hS => ?_)
  refine zr_aload_n (r := some h0) hx hb dX5_pick_10 rfl (lv_at hl 0 rfl) ?_
  obtain ⟨a_9, ci_10, fs_11, r_12, er, he, hc, hv, hw⟩ := zgR_e hw
  refine zw_get hk hH er he hv (fk_X5_96 hc) dX5_pick_11 ?_
  refine zr_aload_n (r := some h0) hx hb dX5_pick_14 rfl (lv_at hl 0 rfl) ?_
  obtain ⟨a_13, ci_14, fs_15, x_16, er, he, hc, hv, hw⟩ := zgI_e hw
  refine zw_get hk hH er he hv (fk_X5_243 hc) dX5_pick_15 ?_
  refine lv_iconst (v := (1 : Int32)) hx hb dX5_pick_18 (by decide) ?_
  refine lv_isub hx hb dX5_pick_19 ?_
  obtain ⟨a_17, n_18, f_19, er, he, hi, hw⟩ := zaI_e hw
  have hw := hw _ rfl
  refine zw_iald hk hH er he hi dX5_pick_20 ?_
  generalize f_19 (x_16 - (1 : Int32)).toNatClampNeg = x_20 at hw ⊢
  obtain ⟨P_62, hP_62, hw⟩ := hw
  have hJ_62 : ∀ (x_21 : Int32) (hp_22 : zHp) (H : Heap) (locs : List Loc) (ls : Array Slot), P_62 x_21 hp_22 → lv_has ls 2 [(0, va_rf (some h0))] → zHd g hp_22 H → H.size = nx → va_S (zAd g) s.heap H locs → W p l e (zrm (d + 1) 0 0) s m ([.ref h0] : List Value).toArray below meth c H locs 0 0 (MQ below (zQv g Post) ([.ref h0] : List Value).toArray s 0 0 (zAd g)) (F0 m 62 ls [.int x_21]) := by
    intro x_21 hp_22 H locs ls hw hl hH hz hS
    have hw := hP_62 x_21 hp_22 hw
    refine lv_istore_n (i := 1) (lv' := [(1, .int x_21), (0, va_rf (some h0))]) hx hb dX5_pick_62 rfl hl (by decide) (by first | rfl | simp [List.filter_cons, z_cat, z_catI, z_catJ, z_catF, z_catD]) (fun ls hl => ?_)
    refine zr_aload_n (r := some h0) hx hb dX5_pick_63 rfl (lv_at hl 1 rfl) ?_
    obtain ⟨a_23, ci_24, fs_25, r_26, er, he, hc, hv, hw⟩ := zgR_e hw
    refine zw_get hk hH er he hv (fk_X5_93 hc) dX5_pick_64 ?_
    refine zr_aload_n (r := some h0) hx hb dX5_pick_67 rfl (lv_at hl 1 rfl) ?_
    obtain ⟨a_27, ci_28, fs_29, x_30, er, he, hc, hv, hw⟩ := zgI_e hw
    refine zw_get hk hH er he hv (fk_X5_243 hc) dX5_pick_68 ?_
    refine lv_iconst (v := (1 : Int32)) hx hb dX5_pick_71 (by decide) ?_
    refine lv_isub hx hb dX5_pick_72 ?_
    refine zr_aload_n (r := some h0) hx hb dX5_pick_73 rfl (lv_at hl 1 rfl) ?_
    obtain ⟨a_31, ci_32, fs_33, r_34, er, he, hc, hv, hw⟩ := zgR_e hw
    refine zw_get hk hH er he hv (fk_X5_93 hc) dX5_pick_74 ?_
    refine lv_iload_n hx hb dX5_pick_77 rfl (lv_at hl 0 rfl) ?_
    obtain ⟨a_35, n_36, f_37, er, he, hi, hw⟩ := zaD_e hw
    have hw := hw _ rfl
    refine zw_dald hk hH er he hi dX5_pick_78 ?_
    generalize f_37 x_21.toNatClampNeg = x_38 at hw ⊢
    obtain ⟨a_39, n_40, f_41, er, he, hi, hA, hw⟩ := zaD_e hw
    obtain ⟨hp_42, eh⟩ : ∃ y : zHp, y = va_up hp_22 a_39 (some (.inl (g.2.1 1, n_40, .inr (.inr (.inr (.inl (va_up f_41 (x_30 - (1 : Int32)).toNatClampNeg x_38))))))) := ⟨_, rfl⟩
    have hw := hw hp_42 eh
    refine zw_dast hk hH hz hS er he hi hA eh dX5_pick_79 (fun H locs hH hz hS => ?_)
    refine zr_aload_n (r := some h0) hx hb dX5_pick_80 rfl (lv_at hl 1 rfl) ?_
    obtain ⟨a_43, ci_44, fs_45, r_46, er, he, hc, hv, hw⟩ := zgR_e hw
    refine zw_get hk hH er he hv (fk_X5_96 hc) dX5_pick_81 ?_
    refine zr_aload_n (r := some h0) hx hb dX5_pick_84 rfl (lv_at hl 1 rfl) ?_
    obtain ⟨a_47, ci_48, fs_49, x_50, er, he, hc, hv, hw⟩ := zgI_e hw
    refine zw_get hk hH er he hv (fk_X5_243 hc) dX5_pick_85 ?_
    refine lv_iconst (v := (1 : Int32)) hx hb dX5_pick_88 (by decide) ?_
    refine lv_isub hx hb dX5_pick_89 ?_
    refine zr_aload_n (r := some h0) hx hb dX5_pick_90 rfl (lv_at hl 1 rfl) ?_
    obtain ⟨a_51, ci_52, fs_53, r_54, er, he, hc, hv, hw⟩ := zgR_e hw
    refine zw_get hk hH er he hv (fk_X5_96 hc) dX5_pick_91 ?_
    refine lv_iload_n hx hb dX5_pick_94 rfl (lv_at hl 0 rfl) ?_
    obtain ⟨a_55, n_56, f_57, er, he, hi, hw⟩ := zaI_e hw
    have hw := hw _ rfl
    refine zw_iald hk hH er he hi dX5_pick_95 ?_
    generalize f_57 x_21.toNatClampNeg = x_58 at hw ⊢
    obtain ⟨a_59, n_60, f_61, er, he, hi, hA, hw⟩ := zaI_e hw
    obtain ⟨hp_62, eh⟩ : ∃ y : zHp, y = va_up hp_42 a_59 (some (.inl (g.2.1 0, n_60, .inl (va_up f_61 (x_50 - (1 : Int32)).toNatClampNeg x_58)))) := ⟨_, rfl⟩
    have hw := hw hp_62 eh
    refine zw_iast hk hH hz hS er he hi hA eh dX5_pick_96 (fun H locs hH hz hS => ?_)
    refine zr_aload_n (r := some h0) hx hb dX5_pick_97 rfl (lv_at hl 1 rfl) ?_
    obtain ⟨a_63, ci_64, fs_65, r_66, er, he, hc, hv, hw⟩ := zgR_e hw
    refine zw_get hk hH er he hv (fk_X5_99 hc) dX5_pick_98 ?_
    refine zr_aload_n (r := some h0) hx hb dX5_pick_101 rfl (lv_at hl 1 rfl) ?_
    obtain ⟨a_67, ci_68, fs_69, x_70, er, he, hc, hv, hw⟩ := zgI_e hw
    refine zw_get hk hH er he hv (fk_X5_243 hc) dX5_pick_102 ?_
    refine lv_iconst (v := (1 : Int32)) hx hb dX5_pick_105 (by decide) ?_
    refine lv_isub hx hb dX5_pick_106 ?_
    refine zr_aload_n (r := some h0) hx hb dX5_pick_107 rfl (lv_at hl 1 rfl) ?_
    obtain ⟨a_71, ci_72, fs_73, r_74, er, he, hc, hv, hw⟩ := zgR_e hw
    refine zw_get hk hH er he hv (fk_X5_99 hc) dX5_pick_108 ?_
    refine lv_iload_n hx hb dX5_pick_111 rfl (lv_at hl 0 rfl) ?_
    obtain ⟨a_75, n_76, f_77, er, he, hi, hw⟩ := zaI_e hw
    have hw := hw _ rfl
    refine zw_iald hk hH er he hi dX5_pick_112 ?_
    generalize f_77 x_21.toNatClampNeg = x_78 at hw ⊢
    obtain ⟨a_79, n_80, f_81, er, he, hi, hA, hw⟩ := zaI_e hw
    obtain ⟨hp_82, eh⟩ : ∃ y : zHp, y = va_up hp_62 a_79 (some (.inl (g.2.1 0, n_80, .inl (va_up f_81 (x_70 - (1 : Int32)).toNatClampNeg x_78)))) := ⟨_, rfl⟩
    have hw := hw hp_82 eh
    refine zw_iast hk hH hz hS er he hi hA eh dX5_pick_113 (fun H locs hH hz hS => ?_)
    exact zr_vret hk hr hH hz hS hw (Nat.le_of_ble_eq_true rfl) (Nat.le_of_ble_eq_true rfl) dX5_pick_114
  refine lv_if_eq (tgt := 33) hx hb dX5_pick_21 (by decide) (fun hc => ?_) (fun hc => ?_)
  · have hw := hw.1 hc
    refine zr_aload_n (r := some h0) hx hb dX5_pick_33 rfl (lv_at hl 0 rfl) ?_
    obtain ⟨a_83, ci_84, fs_85, r_86, er, he, hc, hv, hw⟩ := zgR_e hw
    refine zw_get hk hH er he hv (fk_X5_93 hc) dX5_pick_34 ?_
    refine zr_aload_n (r := some h0) hx hb dX5_pick_37 rfl (lv_at hl 0 rfl) ?_
    obtain ⟨a_87, ci_88, fs_89, x_90, er, he, hc, hv, hw⟩ := zgI_e hw
    refine zw_get hk hH er he hv (fk_X5_243 hc) dX5_pick_38 ?_
    refine lv_iconst (v := (1 : Int32)) hx hb dX5_pick_41 (by decide) ?_
    refine lv_isub hx hb dX5_pick_42 ?_
    obtain ⟨a_91, n_92, f_93, er, he, hi, hw⟩ := zaD_e hw
    have hw := hw _ rfl
    refine zw_dald hk hH er he hi dX5_pick_43 ?_
    generalize f_93 (x_90 - (1 : Int32)).toNatClampNeg = x_94 at hw ⊢
    refine lv_dconst0 hx hb dX5_pick_44 ?_
    refine lv_dcmp hx hb dX5_pick_45 ?_
    refine lv_if_eq (tgt := 56) hx hb dX5_pick_46 (by decide) (fun hc => ?_) (fun hc => ?_)
    · have hw := hw.1 hc
      refine zr_aload_n (r := some h0) hx hb dX5_pick_56 rfl (lv_at hl 0 rfl) ?_
      obtain ⟨a_95, ci_96, fs_97, x_98, er, he, hc, hv, hw⟩ := zgI_e hw
      refine zw_get hk hH er he hv (fk_X5_243 hc) dX5_pick_57 ?_
      refine lv_iconst (v := (1 : Int32)) hx hb dX5_pick_60 (by decide) ?_
      refine lv_iadd hx hb dX5_pick_61 ?_
      exact hJ_62 (x_98 + (1 : Int32)) hp_8 _ _ _ hw hl hH hz hS
    · have hw := hw.2 hc
      refine zr_aload_n (r := some h0) hx hb dX5_pick_49 rfl (lv_at hl 0 rfl) ?_
      obtain ⟨a_99, ci_100, fs_101, x_102, er, he, hc, hv, hw⟩ := zgI_e hw
      refine zw_get hk hH er he hv (fk_X5_243 hc) dX5_pick_50 ?_
      refine lv_goto (tgt := 62) hx hb dX5_pick_53 (by decide) ?_
      exact hJ_62 x_102 hp_8 _ _ _ hw hl hH hz hS
  · have hw := hw.2 hc
    refine zr_aload_n (r := some h0) hx hb dX5_pick_24 rfl (lv_at hl 0 rfl) ?_
    obtain ⟨a_103, ci_104, fs_105, x_106, er, he, hc, hv, hw⟩ := zgI_e hw
    refine zw_get hk hH er he hv (fk_X5_243 hc) dX5_pick_25 ?_
    refine lv_iconst (v := (1 : Int32)) hx hb dX5_pick_28 (by decide) ?_
    refine lv_isub hx hb dX5_pick_29 ?_
    refine lv_goto (tgt := 62) hx hb dX5_pick_30 (by decide) ?_
    exact hJ_62 (x_106 - (1 : Int32)) hp_8 _ _ _ hw hl hH hz hS
def wp_X5_two (l : Launch) (g : zG) (d : Nat) (h0 : Nat) (x1 : Int32) (x2 : Int32) (hp : zHp) (nx : Nat) (Post : zHp → Nat → Prop) : Prop :=
  (zgI hp (some h0) [5] 26 fun x_4 =>
  (zpt g hp (some h0) [5] 26 (.int (x_4 - (1 : Int32))) fun hp_8 =>
  (zgI hp_8 (some h0) [5] 26 fun x_12 =>
  (∀ x_13 : Int32, x_13 = x_12 - (1 : Int32) →
  (zgR hp_8 (some h0) [5] 28 fun r_17 =>
  (zaI (g.2.1 0) hp_8 r_17 fun a_18 n_19 f_20 => vp_in x_13 n_19 ∧ ∀ x_21 : Int32, x_21 = f_20 x_13.toNatClampNeg →
  ((x_21 = 0 →
  (zgR hp_8 (some h0) [5] 28 fun r_25 =>
  (zgI hp_8 (some h0) [5] 26 fun x_29 =>
  (zaI (g.2.1 0) hp_8 r_25 fun a_30 n_31 f_32 => vp_in x_29 n_31 ∧ ∀ x_33 : Int32, x_33 = f_32 x_29.toNatClampNeg →
  ((x_33 = 0 →
  (zgR hp_8 (some h0) [5] 27 fun r_37 =>
  (zaD (g.2.1 1) hp_8 r_37 fun a_38 n_39 f_40 => vp_in x_13 n_39 ∧ ∀ x_41 : UInt64, x_41 = f_40 x_13.toNatClampNeg →
  (zgR hp_8 (some h0) [5] 27 fun r_45 =>
  (zgI hp_8 (some h0) [5] 26 fun x_49 =>
  (zaD (g.2.1 1) hp_8 r_45 fun a_50 n_51 f_52 => vp_in x_49 n_51 ∧ ∀ x_53 : UInt64, x_53 = f_52 x_49.toNatClampNeg →
  (∃ P_121 : Int32 → UInt64 → UInt64 → zHp → Prop, (∀ (x_54 : Int32) (x_55 : UInt64) (x_56 : UInt64) (hp_57 : zHp), P_121 x_54 x_55 x_56 hp_57 →
  (∃ P_269 : Int32 → UInt64 → UInt64 → UInt64 → zHp → Prop, (∀ (x_58 : Int32) (x_59 : UInt64) (x_60 : UInt64) (x_61 : UInt64) (hp_62 : zHp), P_269 x_58 x_59 x_60 x_61 hp_62 →
  (zgR hp_62 (some h0) [5] 27 fun r_66 =>
  (zaD (g.2.1 1) hp_62 r_66 fun a_67 n_68 f_69 => vp_in x_58 n_68 ∧ zB g ≤ a_67 ∧ ∀ hp_70 : zHp, hp_70 = va_up hp_62 a_67 (some (.inl (g.2.1 1, n_68, .inr (.inr (.inr (.inl (va_up f_69 x_58.toNatClampNeg x_61))))))) →
  (∃ P_316 : Int32 → UInt64 → UInt64 → UInt64 → zHp → Prop, (∀ (x_71 : Int32) (x_72 : UInt64) (x_73 : UInt64) (x_74 : UInt64) (hp_75 : zHp), P_316 x_71 x_72 x_73 x_74 hp_75 →
  (Post hp_75 nx)) ∧
  (((4 : Int32) < x2 →
  P_316 x_58 x_59 x_60 x_61 hp_70) ∧
  (¬ (4 : Int32) < x2 →
  (∃ P_302 : Int32 → UInt64 → UInt64 → UInt64 → zHp → Prop, (∀ (x_76 : Int32) (x_77 : UInt64) (x_78 : UInt64) (x_79 : UInt64) (hp_80 : zHp), P_302 x_76 x_77 x_78 x_79 hp_80 →
  (zgR hp_80 (some h0) [5] 28 fun r_84 =>
  (zaI (g.2.1 0) hp_80 r_84 fun a_85 n_86 f_87 => vp_in x_76 n_86 ∧ zB g ≤ a_85 ∧ ∀ hp_88 : zHp, hp_88 = va_up hp_80 a_85 (some (.inl (g.2.1 0, n_86, .inl (va_up f_87 x_76.toNatClampNeg (3 : Int32))))) →
  (zgR hp_88 (some h0) [5] 29 fun r_92 =>
  (zaI (g.2.1 0) hp_88 r_92 fun a_93 n_94 f_95 => vp_in x_76 n_94 ∧ zB g ≤ a_93 ∧ ∀ hp_96 : zHp, hp_96 = va_up hp_88 a_93 (some (.inl (g.2.1 0, n_94, .inl (va_up f_95 x_76.toNatClampNeg x1)))) →
  P_316 x_76 x_77 x_78 x_79 hp_96))))) ∧
  ((0 < (Op.cmpValue (FP.dcmp x_61 (4786511204640096256 : UInt64)) .l) →
  P_302 x_58 x_59 x_60 x_61 hp_70) ∧
  (¬ 0 < (Op.cmpValue (FP.dcmp x_61 (4786511204640096256 : UInt64)) .l) →
  ((0 ≤ (Op.cmpValue (FP.dcmp x_61 (14009883241494872064 : UInt64)) .g) →
  P_316 x_58 x_59 x_60 x_61 hp_70) ∧
  (¬ 0 ≤ (Op.cmpValue (FP.dcmp x_61 (14009883241494872064 : UInt64)) .g) →
  P_302 x_58 x_59 x_60 x_61 hp_70))))))))))) ∧
  ((x2 = (1 : Int32) →
  (vf_n64 (FP.dadd x_55 x_56) ∧ P_269 x_54 x_55 x_56 (FP.dadd x_55 x_56) hp_57)) ∧
  (¬ x2 = (1 : Int32) →
  ((x2 = (2 : Int32) →
  (vf_n64 (FP.dsub x_55 x_56) ∧ P_269 x_54 x_55 x_56 (FP.dsub x_55 x_56) hp_57)) ∧
  (¬ x2 = (2 : Int32) →
  ((x2 = (3 : Int32) →
  (vf_n64 (FP.dmul x_55 x_56) ∧ P_269 x_54 x_55 x_56 (FP.dmul x_55 x_56) hp_57)) ∧
  (¬ x2 = (3 : Int32) →
  ((x2 = (4 : Int32) →
  (vf_n64 (FP.ddiv x_55 x_56) ∧ P_269 x_54 x_55 x_56 (FP.ddiv x_55 x_56) hp_57)) ∧
  (¬ x2 = (4 : Int32) →
  ((x2 = (5 : Int32) →
  (vf_n64 (FP.drem x_55 x_56) ∧ P_269 x_54 x_55 x_56 (FP.drem x_55 x_56) hp_57)) ∧
  (¬ x2 = (5 : Int32) →
  ((x2 = (6 : Int32) →
  ((0 ≤ (Op.cmpValue (FP.dcmp x_55 x_56) .g) →
  P_269 x_54 x_55 x_56 FP.dconst0 hp_57) ∧
  (¬ 0 ≤ (Op.cmpValue (FP.dcmp x_55 x_56) .g) →
  P_269 x_54 x_55 x_56 FP.dconst1 hp_57))) ∧
  (¬ x2 = (6 : Int32) →
  ((x2 = (7 : Int32) →
  (((Op.cmpValue (FP.dcmp x_55 x_56) .l) = 0 →
  P_269 x_54 x_55 x_56 FP.dconst1 hp_57) ∧
  (¬ (Op.cmpValue (FP.dcmp x_55 x_56) .l) = 0 →
  P_269 x_54 x_55 x_56 FP.dconst0 hp_57))) ∧
  (¬ x2 = (7 : Int32) →
  ((x2 = (8 : Int32) →
  ((0 ≤ (Op.cmpValue (FP.dcmp x_56 x_55) .g) →
  P_269 x_54 x_55 x_56 x_55 hp_57) ∧
  (¬ 0 ≤ (Op.cmpValue (FP.dcmp x_56 x_55) .g) →
  P_269 x_54 x_55 x_56 x_56 hp_57))) ∧
  (¬ x2 = (8 : Int32) →
  (((Op.cmpValue (FP.dcmp x_56 x_55) .l) ≤ 0 →
  P_269 x_54 x_55 x_56 x_55 hp_57) ∧
  (¬ (Op.cmpValue (FP.dcmp x_56 x_55) .l) ≤ 0 →
  P_269 x_54 x_55 x_56 x_56 hp_57)))))))))))))))))))) ∧
  (∃ P_99 : Int32 → UInt64 → UInt64 → zHp → Prop, (∀ (x_97 : Int32) (x_98 : UInt64) (x_99 : UInt64) (hp_100 : zHp), P_99 x_97 x_98 x_99 hp_100 →
  (((Op.cmpValue (FP.dcmp x_99 FP.dconst0) .l) = 0 →
  (zgR hp_100 (some h0) [5] 28 fun r_104 =>
  (zaI (g.2.1 0) hp_100 r_104 fun a_105 n_106 f_107 => vp_in x_97 n_106 ∧ zB g ≤ a_105 ∧ ∀ hp_108 : zHp, hp_108 = va_up hp_100 a_105 (some (.inl (g.2.1 0, n_106, .inl (va_up f_107 x_97.toNatClampNeg (2 : Int32))))) →
  (zgR hp_108 (some h0) [5] 29 fun r_112 =>
  (zaI (g.2.1 0) hp_108 r_112 fun a_113 n_114 f_115 => vp_in x_97 n_114 ∧ zB g ≤ a_113 ∧ ∀ hp_116 : zHp, hp_116 = va_up hp_108 a_113 (some (.inl (g.2.1 0, n_114, .inl (va_up f_115 x_97.toNatClampNeg x1)))) →
  (Post hp_116 nx)))))) ∧
  (¬ (Op.cmpValue (FP.dcmp x_99 FP.dconst0) .l) = 0 →
  P_121 x_97 x_98 x_99 hp_100))) ∧
  ((x2 = (4 : Int32) →
  P_99 x_13 x_41 x_53 hp_8) ∧
  (¬ x2 = (4 : Int32) →
  ((x2 = (5 : Int32) →
  P_99 x_13 x_41 x_53 hp_8) ∧
  (¬ x2 = (5 : Int32) →
  P_121 x_13 x_41 x_53 hp_8)))))))))))) ∧
  (¬ x_33 = 0 →
  (zgR hp_8 (some h0) [5] 28 fun r_120 =>
  (zgR hp_8 (some h0) [5] 28 fun r_124 =>
  (zgI hp_8 (some h0) [5] 26 fun x_128 =>
  (zaI (g.2.1 0) hp_8 r_124 fun a_129 n_130 f_131 => vp_in x_128 n_130 ∧ ∀ x_132 : Int32, x_132 = f_131 x_128.toNatClampNeg →
  (zaI (g.2.1 0) hp_8 r_120 fun a_133 n_134 f_135 => vp_in x_13 n_134 ∧ zB g ≤ a_133 ∧ ∀ hp_136 : zHp, hp_136 = va_up hp_8 a_133 (some (.inl (g.2.1 0, n_134, .inl (va_up f_135 x_13.toNatClampNeg x_132)))) →
  (zgR hp_136 (some h0) [5] 29 fun r_140 =>
  (zgR hp_136 (some h0) [5] 29 fun r_144 =>
  (zgI hp_136 (some h0) [5] 26 fun x_148 =>
  (zaI (g.2.1 0) hp_136 r_144 fun a_149 n_150 f_151 => vp_in x_148 n_150 ∧ ∀ x_152 : Int32, x_152 = f_151 x_148.toNatClampNeg →
  (zaI (g.2.1 0) hp_136 r_140 fun a_153 n_154 f_155 => vp_in x_13 n_154 ∧ zB g ≤ a_153 ∧ ∀ hp_156 : zHp, hp_156 = va_up hp_136 a_153 (some (.inl (g.2.1 0, n_154, .inl (va_up f_155 x_13.toNatClampNeg x_152)))) →
  (Post hp_156 nx))))))))))))))))) ∧
  (¬ x_21 = 0 →
  (Post hp_8 nx)))))))))
set_option maxHeartbeats 40000000 in
theorem met_X5_two {l : Launch} {g : zG} {d : Nat} {h0 : Nat} {x1 : Int32} {x2 : Int32} {hp : zHp} {nx : Nat} {Post : zHp → Nat → Prop} (hw : wp_X5_two l g d h0 x1 x2 hp nx Post) : zMt l g yX5_two cX5_two 10 none (d + 1) 0 0 [.ref h0, .int x1, .int x2] hp nx (zQv g Post) := by
  refine z_start (by decide) (Nat.le_of_ble_eq_true rfl) ?_
  intro p e s m below meth c hk hr hin hH hz ls hl
  have hx := hk.1.1
  have hb := hk.1.2.1
  have hown := hk.1.2.2.2.1
  have hts := hk.1.2.2.2.2
  have hS : va_S (zAd g) s.heap s.heap [] := va_S.rf
  have hl : lv_has ls 10 [(0, va_rf (some h0)), (1, .int x1), (2, .int x2)] := hl
  unfold wp_X5_two at hw
  refine zr_aload_n (r := some h0) hx hb dX5_two_0 rfl (lv_at hl 0 rfl) ?_
  refine lv_dup hx hb dX5_two_1 (z_cat _) ?_
  obtain ⟨a_1, ci_2, fs_3, x_4, er, he, hc, hv, hw⟩ := zgI_e hw
  refine zw_get hk hH er he hv (fk_X5_243 hc) dX5_two_2 ?_
  refine lv_iconst (v := (1 : Int32)) hx hb dX5_two_5 (by decide) ?_
  refine lv_isub hx hb dX5_two_6 ?_
  obtain ⟨a_5, ci_6, fs_7, hp_8, er, he, hc, hA, hkl, eh, hw⟩ := zpt_e hw
  refine zw_put hk hH hz hS er he hA hkl eh (fp_X5_243 hc) rfl rfl dX5_two_7 (fun H locs hH hz hS => ?_)
  refine zr_aload_n (r := some h0) hx hb dX5_two_10 rfl (lv_at hl 0 rfl) ?_
  obtain ⟨a_9, ci_10, fs_11, x_12, er, he, hc, hv, hw⟩ := zgI_e hw
  refine zw_get hk hH er he hv (fk_X5_243 hc) dX5_two_11 ?_
  refine lv_iconst (v := (1 : Int32)) hx hb dX5_two_14 (by decide) ?_
  refine lv_isub hx hb dX5_two_15 ?_
  refine lv_topi (fun x_13 ex_13 => ?_)
  have hw := hw x_13 ex_13
  refine lv_istore_n (i := 3) (lv' := [(3, .int x_13), (0, va_rf (some h0)), (1, .int x1), (2, .int x2)]) hx hb dX5_two_16 rfl hl (by decide) (by first | rfl | simp [List.filter_cons, z_cat, z_catI, z_catJ, z_catF, z_catD]) (fun ls hl => ?_)
  refine zr_aload_n (r := some h0) hx hb dX5_two_17 rfl (lv_at hl 1 rfl) ?_
  obtain ⟨a_14, ci_15, fs_16, r_17, er, he, hc, hv, hw⟩ := zgR_e hw
  refine zw_get hk hH er he hv (fk_X5_96 hc) dX5_two_18 ?_
  refine lv_iload_n hx hb dX5_two_21 rfl (lv_at hl 0 rfl) ?_
  obtain ⟨a_18, n_19, f_20, er, he, hi, hw⟩ := zaI_e hw
  have hw := hw _ rfl
  refine zw_iald hk hH er he hi dX5_two_22 ?_
  generalize f_20 x_13.toNatClampNeg = x_21 at hw ⊢
  refine lv_if_eq (tgt := 27) hx hb dX5_two_23 (by decide) (fun hc => ?_) (fun hc => ?_)
  · have hw := hw.1 hc
    refine zr_aload_n (r := some h0) hx hb dX5_two_27 rfl (lv_at hl 1 rfl) ?_
    obtain ⟨a_22, ci_23, fs_24, r_25, er, he, hc, hv, hw⟩ := zgR_e hw
    refine zw_get hk hH er he hv (fk_X5_96 hc) dX5_two_28 ?_
    refine zr_aload_n (r := some h0) hx hb dX5_two_31 rfl (lv_at hl 1 rfl) ?_
    obtain ⟨a_26, ci_27, fs_28, x_29, er, he, hc, hv, hw⟩ := zgI_e hw
    refine zw_get hk hH er he hv (fk_X5_243 hc) dX5_two_32 ?_
    obtain ⟨a_30, n_31, f_32, er, he, hi, hw⟩ := zaI_e hw
    have hw := hw _ rfl
    refine zw_iald hk hH er he hi dX5_two_35 ?_
    generalize f_32 x_29.toNatClampNeg = x_33 at hw ⊢
    refine lv_if_eq (tgt := 70) hx hb dX5_two_36 (by decide) (fun hc => ?_) (fun hc => ?_)
    · have hw := hw.1 hc
      refine zr_aload_n (r := some h0) hx hb dX5_two_70 rfl (lv_at hl 1 rfl) ?_
      obtain ⟨a_34, ci_35, fs_36, r_37, er, he, hc, hv, hw⟩ := zgR_e hw
      refine zw_get hk hH er he hv (fk_X5_93 hc) dX5_two_71 ?_
      refine lv_iload_n hx hb dX5_two_74 rfl (lv_at hl 0 rfl) ?_
      obtain ⟨a_38, n_39, f_40, er, he, hi, hw⟩ := zaD_e hw
      have hw := hw _ rfl
      refine zw_dald hk hH er he hi dX5_two_75 ?_
      generalize f_40 x_13.toNatClampNeg = x_41 at hw ⊢
      refine lv_dstore (lv' := [(4, .double x_41), (3, .int x_13), (0, va_rf (some h0)), (1, .int x1), (2, .int x2)]) hx hb dX5_two_76 hl (by decide) (by first | rfl | simp [List.filter_cons, z_cat, z_catI, z_catJ, z_catF, z_catD]) (fun ls hl => ?_)
      refine zr_aload_n (r := some h0) hx hb dX5_two_78 rfl (lv_at hl 2 rfl) ?_
      obtain ⟨a_42, ci_43, fs_44, r_45, er, he, hc, hv, hw⟩ := zgR_e hw
      refine zw_get hk hH er he hv (fk_X5_93 hc) dX5_two_79 ?_
      refine zr_aload_n (r := some h0) hx hb dX5_two_82 rfl (lv_at hl 2 rfl) ?_
      obtain ⟨a_46, ci_47, fs_48, x_49, er, he, hc, hv, hw⟩ := zgI_e hw
      refine zw_get hk hH er he hv (fk_X5_243 hc) dX5_two_83 ?_
      obtain ⟨a_50, n_51, f_52, er, he, hi, hw⟩ := zaD_e hw
      have hw := hw _ rfl
      refine zw_dald hk hH er he hi dX5_two_86 ?_
      generalize f_52 x_49.toNatClampNeg = x_53 at hw ⊢
      refine lv_dstore (lv' := [(6, .double x_53), (4, .double x_41), (3, .int x_13), (0, va_rf (some h0)), (1, .int x1), (2, .int x2)]) hx hb dX5_two_87 hl (by decide) (by first | rfl | simp [List.filter_cons, z_cat, z_catI, z_catJ, z_catF, z_catD]) (fun ls hl => ?_)
      refine lv_iload_n hx hb dX5_two_89 rfl (lv_at hl 5 rfl) ?_
      refine lv_iconst (v := (4 : Int32)) hx hb dX5_two_90 (by decide) ?_
      obtain ⟨P_121, hP_121, hw⟩ := hw
      have hJ_121 : ∀ (x_54 : Int32) (x_55 : UInt64) (x_56 : UInt64) (hp_57 : zHp) (H : Heap) (locs : List Loc) (ls : Array Slot), P_121 x_54 x_55 x_56 hp_57 → lv_has ls 10 [(0, va_rf (some h0)), (1, .int x1), (2, .int x2), (3, .int x_54), (4, .double x_55), (6, .double x_56)] → zHd g hp_57 H → H.size = nx → va_S (zAd g) s.heap H locs → W p l e (zrm (d + 1) 0 0) s m ([.ref h0, .int x1, .int x2] : List Value).toArray below meth c H locs 0 0 (MQ below (zQv g Post) ([.ref h0, .int x1, .int x2] : List Value).toArray s 0 0 (zAd g)) (F0 m 121 ls []) := by
        intro x_54 x_55 x_56 hp_57 H locs ls hw hl hH hz hS
        have hw := hP_121 x_54 x_55 x_56 hp_57 hw
        refine lv_iload_n hx hb dX5_two_121 rfl (lv_at hl 2 rfl) ?_
        refine lv_iconst (v := (1 : Int32)) hx hb dX5_two_122 (by decide) ?_
        obtain ⟨P_269, hP_269, hw⟩ := hw
        have hJ_269 : ∀ (x_58 : Int32) (x_59 : UInt64) (x_60 : UInt64) (x_61 : UInt64) (hp_62 : zHp) (H : Heap) (locs : List Loc) (ls : Array Slot), P_269 x_58 x_59 x_60 x_61 hp_62 → lv_has ls 10 [(0, va_rf (some h0)), (1, .int x1), (2, .int x2), (3, .int x_58), (4, .double x_59), (6, .double x_60)] → zHd g hp_62 H → H.size = nx → va_S (zAd g) s.heap H locs → W p l e (zrm (d + 1) 0 0) s m ([.ref h0, .int x1, .int x2] : List Value).toArray below meth c H locs 0 0 (MQ below (zQv g Post) ([.ref h0, .int x1, .int x2] : List Value).toArray s 0 0 (zAd g)) (F0 m 269 ls [.double x_61]) := by
          intro x_58 x_59 x_60 x_61 hp_62 H locs ls hw hl hH hz hS
          have hw := hP_269 x_58 x_59 x_60 x_61 hp_62 hw
          refine lv_dstore (lv' := [(8, .double x_61), (0, va_rf (some h0)), (1, .int x1), (2, .int x2), (3, .int x_58), (4, .double x_59), (6, .double x_60)]) hx hb dX5_two_269 hl (by decide) (by first | rfl | simp [List.filter_cons, z_cat, z_catI, z_catJ, z_catF, z_catD]) (fun ls hl => ?_)
          refine zr_aload_n (r := some h0) hx hb dX5_two_271 rfl (lv_at hl 1 rfl) ?_
          obtain ⟨a_63, ci_64, fs_65, r_66, er, he, hc, hv, hw⟩ := zgR_e hw
          refine zw_get hk hH er he hv (fk_X5_93 hc) dX5_two_272 ?_
          refine lv_iload_n hx hb dX5_two_275 rfl (lv_at hl 4 rfl) ?_
          refine lv_dload hx hb dX5_two_276 (lv_at hl 0 rfl) ?_
          obtain ⟨a_67, n_68, f_69, er, he, hi, hA, hw⟩ := zaD_e hw
          obtain ⟨hp_70, eh⟩ : ∃ y : zHp, y = va_up hp_62 a_67 (some (.inl (g.2.1 1, n_68, .inr (.inr (.inr (.inl (va_up f_69 x_58.toNatClampNeg x_61))))))) := ⟨_, rfl⟩
          have hw := hw hp_70 eh
          refine zw_dast hk hH hz hS er he hi hA eh dX5_two_278 (fun H locs hH hz hS => ?_)
          refine lv_iload_n hx hb dX5_two_279 rfl (lv_at hl 3 rfl) ?_
          refine lv_iconst (v := (4 : Int32)) hx hb dX5_two_280 (by decide) ?_
          obtain ⟨P_316, hP_316, hw⟩ := hw
          have hJ_316 : ∀ (x_71 : Int32) (x_72 : UInt64) (x_73 : UInt64) (x_74 : UInt64) (hp_75 : zHp) (H : Heap) (locs : List Loc) (ls : Array Slot), P_316 x_71 x_72 x_73 x_74 hp_75 → lv_has ls 10 [(0, va_rf (some h0)), (1, .int x1), (2, .int x2), (3, .int x_71), (4, .double x_72), (6, .double x_73), (8, .double x_74)] → zHd g hp_75 H → H.size = nx → va_S (zAd g) s.heap H locs → W p l e (zrm (d + 1) 0 0) s m ([.ref h0, .int x1, .int x2] : List Value).toArray below meth c H locs 0 0 (MQ below (zQv g Post) ([.ref h0, .int x1, .int x2] : List Value).toArray s 0 0 (zAd g)) (F0 m 316 ls []) := by
            intro x_71 x_72 x_73 x_74 hp_75 H locs ls hw hl hH hz hS
            have hw := hP_316 x_71 x_72 x_73 x_74 hp_75 hw
            exact zr_vret hk hr hH hz hS hw (Nat.le_of_ble_eq_true rfl) (Nat.le_of_ble_eq_true rfl) dX5_two_316
          refine lv_icmp_gt (tgt := 316) hx hb dX5_two_281 (by decide) (fun hc => ?_) (fun hc => ?_)
          · have hw := hw.1 hc
            exact hJ_316 x_58 x_59 x_60 x_61 hp_70 _ _ _ hw (lv_sub hl [1, 2, 3, 4, 5, 6, 0] rfl) hH hz hS
          · have hw := hw.2 hc
            refine lv_dload hx hb dX5_two_284 (lv_at hl 0 rfl) ?_
            refine lv_ldc2d hx hb hown (hts _ q3023) dX5_two_286 ?_
            refine lv_dcmp hx hb dX5_two_289 ?_
            obtain ⟨P_302, hP_302, hw⟩ := hw
            have hJ_302 : ∀ (x_76 : Int32) (x_77 : UInt64) (x_78 : UInt64) (x_79 : UInt64) (hp_80 : zHp) (H : Heap) (locs : List Loc) (ls : Array Slot), P_302 x_76 x_77 x_78 x_79 hp_80 → lv_has ls 10 [(0, va_rf (some h0)), (1, .int x1), (2, .int x2), (3, .int x_76), (4, .double x_77), (6, .double x_78), (8, .double x_79)] → zHd g hp_80 H → H.size = nx → va_S (zAd g) s.heap H locs → W p l e (zrm (d + 1) 0 0) s m ([.ref h0, .int x1, .int x2] : List Value).toArray below meth c H locs 0 0 (MQ below (zQv g Post) ([.ref h0, .int x1, .int x2] : List Value).toArray s 0 0 (zAd g)) (F0 m 302 ls []) := by
              intro x_76 x_77 x_78 x_79 hp_80 H locs ls hw hl hH hz hS
              have hw := hP_302 x_76 x_77 x_78 x_79 hp_80 hw
              refine zr_aload_n (r := some h0) hx hb dX5_two_302 rfl (lv_at hl 0 rfl) ?_
              obtain ⟨a_81, ci_82, fs_83, r_84, er, he, hc, hv, hw⟩ := zgR_e hw
              refine zw_get hk hH er he hv (fk_X5_96 hc) dX5_two_303 ?_
              refine lv_iload_n hx hb dX5_two_306 rfl (lv_at hl 3 rfl) ?_
              refine lv_iconst (v := (3 : Int32)) hx hb dX5_two_307 (by decide) ?_
              obtain ⟨a_85, n_86, f_87, er, he, hi, hA, hw⟩ := zaI_e hw
              obtain ⟨hp_88, eh⟩ : ∃ y : zHp, y = va_up hp_80 a_85 (some (.inl (g.2.1 0, n_86, .inl (va_up f_87 x_76.toNatClampNeg (3 : Int32))))) := ⟨_, rfl⟩
              have hw := hw hp_88 eh
              refine zw_iast hk hH hz hS er he hi hA eh dX5_two_308 (fun H locs hH hz hS => ?_)
              refine zr_aload_n (r := some h0) hx hb dX5_two_309 rfl (lv_at hl 0 rfl) ?_
              obtain ⟨a_89, ci_90, fs_91, r_92, er, he, hc, hv, hw⟩ := zgR_e hw
              refine zw_get hk hH er he hv (fk_X5_99 hc) dX5_two_310 ?_
              refine lv_iload_n hx hb dX5_two_313 rfl (lv_at hl 3 rfl) ?_
              refine lv_iload_n hx hb dX5_two_314 rfl (lv_at hl 1 rfl) ?_
              obtain ⟨a_93, n_94, f_95, er, he, hi, hA, hw⟩ := zaI_e hw
              obtain ⟨hp_96, eh⟩ : ∃ y : zHp, y = va_up hp_88 a_93 (some (.inl (g.2.1 0, n_94, .inl (va_up f_95 x_76.toNatClampNeg x1)))) := ⟨_, rfl⟩
              have hw := hw hp_96 eh
              refine zw_iast hk hH hz hS er he hi hA eh dX5_two_315 (fun H locs hH hz hS => ?_)
              exact hJ_316 x_76 x_77 x_78 x_79 hp_96 _ _ _ hw hl hH hz hS
            refine lv_if_gt (tgt := 302) hx hb dX5_two_290 (by decide) (fun hc => ?_) (fun hc => ?_)
            · have hw := hw.1 hc
              exact hJ_302 x_58 x_59 x_60 x_61 hp_70 _ _ _ hw (lv_sub hl [1, 2, 3, 4, 5, 6, 0] rfl) hH hz hS
            · have hw := hw.2 hc
              refine lv_dload hx hb dX5_two_293 (lv_at hl 0 rfl) ?_
              refine lv_ldc2d hx hb hown (hts _ q3024) dX5_two_295 ?_
              refine lv_dcmp hx hb dX5_two_298 ?_
              refine lv_if_ge (tgt := 316) hx hb dX5_two_299 (by decide) (fun hc => ?_) (fun hc => ?_)
              · have hw := hw.1 hc
                exact hJ_316 x_58 x_59 x_60 x_61 hp_70 _ _ _ hw (lv_sub hl [1, 2, 3, 4, 5, 6, 0] rfl) hH hz hS
              · have hw := hw.2 hc
                exact hJ_302 x_58 x_59 x_60 x_61 hp_70 _ _ _ hw (lv_sub hl [1, 2, 3, 4, 5, 6, 0] rfl) hH hz hS
        refine lv_icmp_ne (tgt := 134) hx hb dX5_two_123 (by decide) (fun hc => ?_) (fun hc => ?_)
        · have hw := hw.2 hc
          refine lv_iload_n hx hb dX5_two_134 rfl (lv_at hl 2 rfl) ?_
          refine lv_iconst (v := (2 : Int32)) hx hb dX5_two_135 (by decide) ?_
          refine lv_icmp_ne (tgt := 147) hx hb dX5_two_136 (by decide) (fun hc => ?_) (fun hc => ?_)
          · have hw := hw.2 hc
            refine lv_iload_n hx hb dX5_two_147 rfl (lv_at hl 2 rfl) ?_
            refine lv_iconst (v := (3 : Int32)) hx hb dX5_two_148 (by decide) ?_
            refine lv_icmp_ne (tgt := 160) hx hb dX5_two_149 (by decide) (fun hc => ?_) (fun hc => ?_)
            · have hw := hw.2 hc
              refine lv_iload_n hx hb dX5_two_160 rfl (lv_at hl 2 rfl) ?_
              refine lv_iconst (v := (4 : Int32)) hx hb dX5_two_161 (by decide) ?_
              refine lv_icmp_ne (tgt := 173) hx hb dX5_two_162 (by decide) (fun hc => ?_) (fun hc => ?_)
              · have hw := hw.2 hc
                refine lv_iload_n hx hb dX5_two_173 rfl (lv_at hl 2 rfl) ?_
                refine lv_iconst (v := (5 : Int32)) hx hb dX5_two_174 (by decide) ?_
                refine lv_icmp_ne (tgt := 186) hx hb dX5_two_175 (by decide) (fun hc => ?_) (fun hc => ?_)
                · have hw := hw.2 hc
                  refine lv_iload_n hx hb dX5_two_186 rfl (lv_at hl 2 rfl) ?_
                  refine lv_bipush (v := (6 : Int32)) hx hb dX5_two_187 (by decide) ?_
                  refine lv_icmp_ne (tgt := 208) hx hb dX5_two_189 (by decide) (fun hc => ?_) (fun hc => ?_)
                  · have hw := hw.2 hc
                    refine lv_iload_n hx hb dX5_two_208 rfl (lv_at hl 2 rfl) ?_
                    refine lv_bipush (v := (7 : Int32)) hx hb dX5_two_209 (by decide) ?_
                    refine lv_icmp_ne (tgt := 230) hx hb dX5_two_211 (by decide) (fun hc => ?_) (fun hc => ?_)
                    · have hw := hw.2 hc
                      refine lv_iload_n hx hb dX5_two_230 rfl (lv_at hl 2 rfl) ?_
                      refine lv_bipush (v := (8 : Int32)) hx hb dX5_two_231 (by decide) ?_
                      refine lv_icmp_ne (tgt := 254) hx hb dX5_two_233 (by decide) (fun hc => ?_) (fun hc => ?_)
                      · have hw := hw.2 hc
                        refine lv_dload hx hb dX5_two_254 (lv_at hl 5 rfl) ?_
                        refine lv_dload hx hb dX5_two_256 (lv_at hl 4 rfl) ?_
                        refine lv_dcmp hx hb dX5_two_258 ?_
                        refine lv_if_le (tgt := 267) hx hb dX5_two_259 (by decide) (fun hc => ?_) (fun hc => ?_)
                        · have hw := hw.1 hc
                          refine lv_dload hx hb dX5_two_267 (lv_at hl 4 rfl) ?_
                          exact hJ_269 x_54 x_55 x_56 x_55 hp_57 _ _ _ hw hl hH hz hS
                        · have hw := hw.2 hc
                          refine lv_dload hx hb dX5_two_262 (lv_at hl 5 rfl) ?_
                          refine lv_goto (tgt := 269) hx hb dX5_two_264 (by decide) ?_
                          exact hJ_269 x_54 x_55 x_56 x_56 hp_57 _ _ _ hw hl hH hz hS
                      · have hw := hw.1 hc
                        refine lv_dload hx hb dX5_two_236 (lv_at hl 5 rfl) ?_
                        refine lv_dload hx hb dX5_two_238 (lv_at hl 4 rfl) ?_
                        refine lv_dcmp hx hb dX5_two_240 ?_
                        refine lv_if_ge (tgt := 249) hx hb dX5_two_241 (by decide) (fun hc => ?_) (fun hc => ?_)
                        · have hw := hw.1 hc
                          refine lv_dload hx hb dX5_two_249 (lv_at hl 4 rfl) ?_
                          refine lv_goto (tgt := 269) hx hb dX5_two_251 (by decide) ?_
                          exact hJ_269 x_54 x_55 x_56 x_55 hp_57 _ _ _ hw hl hH hz hS
                        · have hw := hw.2 hc
                          refine lv_dload hx hb dX5_two_244 (lv_at hl 5 rfl) ?_
                          refine lv_goto (tgt := 269) hx hb dX5_two_246 (by decide) ?_
                          exact hJ_269 x_54 x_55 x_56 x_56 hp_57 _ _ _ hw hl hH hz hS
                    · have hw := hw.1 hc
                      refine lv_dload hx hb dX5_two_214 (lv_at hl 4 rfl) ?_
                      refine lv_dload hx hb dX5_two_216 (lv_at hl 5 rfl) ?_
                      refine lv_dcmp hx hb dX5_two_218 ?_
                      refine lv_if_ne (tgt := 226) hx hb dX5_two_219 (by decide) (fun hc => ?_) (fun hc => ?_)
                      · have hw := hw.2 hc
                        refine lv_dconst0 hx hb dX5_two_226 ?_
                        refine lv_goto (tgt := 269) hx hb dX5_two_227 (by decide) ?_
                        exact hJ_269 x_54 x_55 x_56 FP.dconst0 hp_57 _ _ _ hw hl hH hz hS
                      · have hw := hw.1 hc
                        refine lv_dconst1 hx hb dX5_two_222 ?_
                        refine lv_goto (tgt := 269) hx hb dX5_two_223 (by decide) ?_
                        exact hJ_269 x_54 x_55 x_56 FP.dconst1 hp_57 _ _ _ hw hl hH hz hS
                  · have hw := hw.1 hc
                    refine lv_dload hx hb dX5_two_192 (lv_at hl 4 rfl) ?_
                    refine lv_dload hx hb dX5_two_194 (lv_at hl 5 rfl) ?_
                    refine lv_dcmp hx hb dX5_two_196 ?_
                    refine lv_if_ge (tgt := 204) hx hb dX5_two_197 (by decide) (fun hc => ?_) (fun hc => ?_)
                    · have hw := hw.1 hc
                      refine lv_dconst0 hx hb dX5_two_204 ?_
                      refine lv_goto (tgt := 269) hx hb dX5_two_205 (by decide) ?_
                      exact hJ_269 x_54 x_55 x_56 FP.dconst0 hp_57 _ _ _ hw hl hH hz hS
                    · have hw := hw.2 hc
                      refine lv_dconst1 hx hb dX5_two_200 ?_
                      refine lv_goto (tgt := 269) hx hb dX5_two_201 (by decide) ?_
                      exact hJ_269 x_54 x_55 x_56 FP.dconst1 hp_57 _ _ _ hw hl hH hz hS
                · have hw := hw.1 hc
                  refine lv_dload hx hb dX5_two_178 (lv_at hl 4 rfl) ?_
                  refine lv_dload hx hb dX5_two_180 (lv_at hl 5 rfl) ?_
                  obtain ⟨hne, hw⟩ := hw
                  refine lv_drem hx hb dX5_two_182 hne ?_
                  refine lv_goto (tgt := 269) hx hb dX5_two_183 (by decide) ?_
                  exact hJ_269 x_54 x_55 x_56 (FP.drem x_55 x_56) hp_57 _ _ _ hw hl hH hz hS
              · have hw := hw.1 hc
                refine lv_dload hx hb dX5_two_165 (lv_at hl 4 rfl) ?_
                refine lv_dload hx hb dX5_two_167 (lv_at hl 5 rfl) ?_
                obtain ⟨hne, hw⟩ := hw
                refine lv_ddiv hx hb dX5_two_169 hne ?_
                refine lv_goto (tgt := 269) hx hb dX5_two_170 (by decide) ?_
                exact hJ_269 x_54 x_55 x_56 (FP.ddiv x_55 x_56) hp_57 _ _ _ hw hl hH hz hS
            · have hw := hw.1 hc
              refine lv_dload hx hb dX5_two_152 (lv_at hl 4 rfl) ?_
              refine lv_dload hx hb dX5_two_154 (lv_at hl 5 rfl) ?_
              obtain ⟨hne, hw⟩ := hw
              refine lv_dmul hx hb dX5_two_156 hne ?_
              refine lv_goto (tgt := 269) hx hb dX5_two_157 (by decide) ?_
              exact hJ_269 x_54 x_55 x_56 (FP.dmul x_55 x_56) hp_57 _ _ _ hw hl hH hz hS
          · have hw := hw.1 hc
            refine lv_dload hx hb dX5_two_139 (lv_at hl 4 rfl) ?_
            refine lv_dload hx hb dX5_two_141 (lv_at hl 5 rfl) ?_
            obtain ⟨hne, hw⟩ := hw
            refine lv_dsub hx hb dX5_two_143 hne ?_
            refine lv_goto (tgt := 269) hx hb dX5_two_144 (by decide) ?_
            exact hJ_269 x_54 x_55 x_56 (FP.dsub x_55 x_56) hp_57 _ _ _ hw hl hH hz hS
        · have hw := hw.1 hc
          refine lv_dload hx hb dX5_two_126 (lv_at hl 4 rfl) ?_
          refine lv_dload hx hb dX5_two_128 (lv_at hl 5 rfl) ?_
          obtain ⟨hne, hw⟩ := hw
          refine lv_dadd hx hb dX5_two_130 hne ?_
          refine lv_goto (tgt := 269) hx hb dX5_two_131 (by decide) ?_
          exact hJ_269 x_54 x_55 x_56 (FP.dadd x_55 x_56) hp_57 _ _ _ hw hl hH hz hS
      obtain ⟨P_99, hP_99, hw⟩ := hw
      have hJ_99 : ∀ (x_97 : Int32) (x_98 : UInt64) (x_99 : UInt64) (hp_100 : zHp) (H : Heap) (locs : List Loc) (ls : Array Slot), P_99 x_97 x_98 x_99 hp_100 → lv_has ls 10 [(0, va_rf (some h0)), (1, .int x1), (2, .int x2), (3, .int x_97), (4, .double x_98), (6, .double x_99)] → zHd g hp_100 H → H.size = nx → va_S (zAd g) s.heap H locs → W p l e (zrm (d + 1) 0 0) s m ([.ref h0, .int x1, .int x2] : List Value).toArray below meth c H locs 0 0 (MQ below (zQv g Post) ([.ref h0, .int x1, .int x2] : List Value).toArray s 0 0 (zAd g)) (F0 m 99 ls []) := by
        intro x_97 x_98 x_99 hp_100 H locs ls hw hl hH hz hS
        have hw := hP_99 x_97 x_98 x_99 hp_100 hw
        refine lv_dload hx hb dX5_two_99 (lv_at hl 5 rfl) ?_
        refine lv_dconst0 hx hb dX5_two_101 ?_
        refine lv_dcmp hx hb dX5_two_102 ?_
        refine lv_if_ne (tgt := 121) hx hb dX5_two_103 (by decide) (fun hc => ?_) (fun hc => ?_)
        · have hw := hw.2 hc
          exact hJ_121 x_97 x_98 x_99 hp_100 _ _ _ hw hl hH hz hS
        · have hw := hw.1 hc
          refine zr_aload_n (r := some h0) hx hb dX5_two_106 rfl (lv_at hl 0 rfl) ?_
          obtain ⟨a_101, ci_102, fs_103, r_104, er, he, hc, hv, hw⟩ := zgR_e hw
          refine zw_get hk hH er he hv (fk_X5_96 hc) dX5_two_107 ?_
          refine lv_iload_n hx hb dX5_two_110 rfl (lv_at hl 3 rfl) ?_
          refine lv_iconst (v := (2 : Int32)) hx hb dX5_two_111 (by decide) ?_
          obtain ⟨a_105, n_106, f_107, er, he, hi, hA, hw⟩ := zaI_e hw
          obtain ⟨hp_108, eh⟩ : ∃ y : zHp, y = va_up hp_100 a_105 (some (.inl (g.2.1 0, n_106, .inl (va_up f_107 x_97.toNatClampNeg (2 : Int32))))) := ⟨_, rfl⟩
          have hw := hw hp_108 eh
          refine zw_iast hk hH hz hS er he hi hA eh dX5_two_112 (fun H locs hH hz hS => ?_)
          refine zr_aload_n (r := some h0) hx hb dX5_two_113 rfl (lv_at hl 0 rfl) ?_
          obtain ⟨a_109, ci_110, fs_111, r_112, er, he, hc, hv, hw⟩ := zgR_e hw
          refine zw_get hk hH er he hv (fk_X5_99 hc) dX5_two_114 ?_
          refine lv_iload_n hx hb dX5_two_117 rfl (lv_at hl 3 rfl) ?_
          refine lv_iload_n hx hb dX5_two_118 rfl (lv_at hl 1 rfl) ?_
          obtain ⟨a_113, n_114, f_115, er, he, hi, hA, hw⟩ := zaI_e hw
          obtain ⟨hp_116, eh⟩ : ∃ y : zHp, y = va_up hp_108 a_113 (some (.inl (g.2.1 0, n_114, .inl (va_up f_115 x_97.toNatClampNeg x1)))) := ⟨_, rfl⟩
          have hw := hw hp_116 eh
          refine zw_iast hk hH hz hS er he hi hA eh dX5_two_119 (fun H locs hH hz hS => ?_)
          exact zr_vret hk hr hH hz hS hw (Nat.le_of_ble_eq_true rfl) (Nat.le_of_ble_eq_true rfl) dX5_two_120
      refine lv_icmp_eq (tgt := 99) hx hb dX5_two_91 (by decide) (fun hc => ?_) (fun hc => ?_)
      · have hw := hw.1 hc
        exact hJ_99 x_13 x_41 x_53 hp_8 _ _ _ hw (lv_sub hl [3, 4, 5, 2, 1, 0] rfl) hH hz hS
      · have hw := hw.2 hc
        refine lv_iload_n hx hb dX5_two_94 rfl (lv_at hl 5 rfl) ?_
        refine lv_iconst (v := (5 : Int32)) hx hb dX5_two_95 (by decide) ?_
        refine lv_icmp_ne (tgt := 121) hx hb dX5_two_96 (by decide) (fun hc => ?_) (fun hc => ?_)
        · have hw := hw.2 hc
          exact hJ_121 x_13 x_41 x_53 hp_8 _ _ _ hw (lv_sub hl [3, 4, 5, 2, 1, 0] rfl) hH hz hS
        · have hw := hw.1 hc
          exact hJ_99 x_13 x_41 x_53 hp_8 _ _ _ hw (lv_sub hl [3, 4, 5, 2, 1, 0] rfl) hH hz hS
    · have hw := hw.2 hc
      refine zr_aload_n (r := some h0) hx hb dX5_two_39 rfl (lv_at hl 1 rfl) ?_
      obtain ⟨a_117, ci_118, fs_119, r_120, er, he, hc, hv, hw⟩ := zgR_e hw
      refine zw_get hk hH er he hv (fk_X5_96 hc) dX5_two_40 ?_
      refine lv_iload_n hx hb dX5_two_43 rfl (lv_at hl 0 rfl) ?_
      refine zr_aload_n (r := some h0) hx hb dX5_two_44 rfl (lv_at hl 1 rfl) ?_
      obtain ⟨a_121, ci_122, fs_123, r_124, er, he, hc, hv, hw⟩ := zgR_e hw
      refine zw_get hk hH er he hv (fk_X5_96 hc) dX5_two_45 ?_
      refine zr_aload_n (r := some h0) hx hb dX5_two_48 rfl (lv_at hl 1 rfl) ?_
      obtain ⟨a_125, ci_126, fs_127, x_128, er, he, hc, hv, hw⟩ := zgI_e hw
      refine zw_get hk hH er he hv (fk_X5_243 hc) dX5_two_49 ?_
      obtain ⟨a_129, n_130, f_131, er, he, hi, hw⟩ := zaI_e hw
      have hw := hw _ rfl
      refine zw_iald hk hH er he hi dX5_two_52 ?_
      generalize f_131 x_128.toNatClampNeg = x_132 at hw ⊢
      obtain ⟨a_133, n_134, f_135, er, he, hi, hA, hw⟩ := zaI_e hw
      obtain ⟨hp_136, eh⟩ : ∃ y : zHp, y = va_up hp_8 a_133 (some (.inl (g.2.1 0, n_134, .inl (va_up f_135 x_13.toNatClampNeg x_132)))) := ⟨_, rfl⟩
      have hw := hw hp_136 eh
      refine zw_iast hk hH hz hS er he hi hA eh dX5_two_53 (fun H locs hH hz hS => ?_)
      refine zr_aload_n (r := some h0) hx hb dX5_two_54 rfl (lv_at hl 1 rfl) ?_
      obtain ⟨a_137, ci_138, fs_139, r_140, er, he, hc, hv, hw⟩ := zgR_e hw
      refine zw_get hk hH er he hv (fk_X5_99 hc) dX5_two_55 ?_
      refine lv_iload_n hx hb dX5_two_58 rfl (lv_at hl 0 rfl) ?_
      refine zr_aload_n (r := some h0) hx hb dX5_two_59 rfl (lv_at hl 1 rfl) ?_
      obtain ⟨a_141, ci_142, fs_143, r_144, er, he, hc, hv, hw⟩ := zgR_e hw
      refine zw_get hk hH er he hv (fk_X5_99 hc) dX5_two_60 ?_
      refine zr_aload_n (r := some h0) hx hb dX5_two_63 rfl (lv_at hl 1 rfl) ?_
      obtain ⟨a_145, ci_146, fs_147, x_148, er, he, hc, hv, hw⟩ := zgI_e hw
      refine zw_get hk hH er he hv (fk_X5_243 hc) dX5_two_64 ?_
      obtain ⟨a_149, n_150, f_151, er, he, hi, hw⟩ := zaI_e hw
      have hw := hw _ rfl
      refine zw_iald hk hH er he hi dX5_two_67 ?_
      generalize f_151 x_148.toNatClampNeg = x_152 at hw ⊢
      obtain ⟨a_153, n_154, f_155, er, he, hi, hA, hw⟩ := zaI_e hw
      obtain ⟨hp_156, eh⟩ : ∃ y : zHp, y = va_up hp_136 a_153 (some (.inl (g.2.1 0, n_154, .inl (va_up f_155 x_13.toNatClampNeg x_152)))) := ⟨_, rfl⟩
      have hw := hw hp_156 eh
      refine zw_iast hk hH hz hS er he hi hA eh dX5_two_68 (fun H locs hH hz hS => ?_)
      exact zr_vret hk hr hH hz hS hw (Nat.le_of_ble_eq_true rfl) (Nat.le_of_ble_eq_true rfl) dX5_two_69
  · have hw := hw.2 hc
    exact zr_vret hk hr hH hz hS hw (Nat.le_of_ble_eq_true rfl) (Nat.le_of_ble_eq_true rfl) dX5_two_26
def wp_X5_value (l : Launch) (g : zG) (d : Nat) (h0 : Nat) (x1 : Int32) (hp : zHp) (nx : Nat) (Post : Int64 → zHp → Nat → Prop) : Prop :=
  (zMt l g yX5_isCell cX5_isCell 1 (some .boolean) d 0 0 [.int x1] hp nx (zQi g fun x_3 hp_1 nx_2 =>
  ((x_3 = 0 →
  (Post (-2 : Int64) hp_1 nx_2)) ∧
  (¬ x_3 = 0 →
  (zo hp_1 (some h0) [5] fun a_16 ci_17 fs_18 => zMt l g yX5_valueNow cX5_valueNow 2 (some .double) d 0 0 (.ref a_16 :: [.int x1]) hp_1 nx_2 (zQd g fun x_6 hp_4 nx_5 =>
  (zo hp_4 (some h0) [5] fun a_13 ci_14 fs_15 => zMt l g yX5_errorOf cX5_errorOf 2 (some .int) d 0 0 (.ref a_13 :: [.int x1]) hp_4 nx_5 (zQi g fun x_9 hp_7 nx_8 =>
  (zMt l g yX5_answer cX5_answer 3 (some .long) d 0 0 [.double x_6, .int x_9] hp_7 nx_8 (zQl g fun x_12 hp_10 nx_11 =>
  (Post x_12 hp_10 nx_11)))))))))))
set_option maxHeartbeats 40000000 in
theorem met_X5_value {l : Launch} {g : zG} {d : Nat} {h0 : Nat} {x1 : Int32} {hp : zHp} {nx : Nat} {Post : Int64 → zHp → Nat → Prop} (hw : wp_X5_value l g d h0 x1 hp nx Post) : zMt l g yX5_value cX5_value 4 (some .long) (d + 1) 0 0 [.ref h0, .int x1] hp nx (zQl g Post) := by
  refine z_start (by decide) (Nat.le_of_ble_eq_true rfl) ?_
  intro p e s m below meth c hk hr hin hH hz ls hl
  have hx := hk.1.1
  have hb := hk.1.2.1
  have hown := hk.1.2.2.2.1
  have hts := hk.1.2.2.2.2
  have hS : va_S (zAd g) s.heap s.heap [] := va_S.rf
  have hl : lv_has ls 4 [(0, va_rf (some h0)), (1, .int x1)] := hl
  unfold wp_X5_value at hw
  refine lv_iload_n hx hb dX5_value_0 rfl (lv_at hl 1 rfl) ?_
  refine zr_calli (zr_runS (As := [.int x1]) hk hH hz hS hl.1 hw (va_cwS 1 hts (lw_S q2908 q2909 q162 q2910) rfl rfl rfl (by decide +kernel) (z_room (Nat.le_of_ble_eq_true rfl))) rfl rfl (Nat.le_of_ble_eq_true rfl) dX5_value_1 ⟨Nat.le_of_ble_eq_true rfl, Nat.le_of_ble_eq_true rfl⟩) hS (fun x_3 hp_1 nx_2 hw H locs hH hz hS => ?_)
  refine lv_if_ne (tgt := 11) hx hb dX5_value_4 (by decide) (fun hc => ?_) (fun hc => ?_)
  · have hw := hw.2 hc
    refine zr_aload_n (r := some h0) hx hb dX5_value_11 rfl (lv_at hl 0 rfl) ?_
    refine lv_iload_n hx hb dX5_value_12 rfl (lv_at hl 1 rfl) ?_
    obtain ⟨a_16, ci_17, fs_18, er, he, hc, hw⟩ := zo_e hw
    obtain rfl := List.mem_singleton.mp hc
    refine zr_calld (zw_runV (As := [.int x1]) hk hH hz hS hl.1 er hw (cwV 1 hts (lw_V q3038 q3040 qs90 q162 q3041) rfl rfl rfl (by decide +kernel) (z_room (Nat.le_of_ble_eq_true rfl))) he rfl rfl rfl (Nat.le_of_ble_eq_true rfl) dX5_value_13 ⟨Nat.le_of_ble_eq_true rfl, Nat.le_of_ble_eq_true rfl⟩) hS (fun x_6 hp_4 nx_5 hw H locs hH hz hS => ?_)
    refine lv_dstore_n (i := 2) (lv' := [(2, .double x_6), (0, va_rf (some h0)), (1, .int x1)]) hx hb dX5_value_16 rfl hl (by decide) (by first | rfl | simp [List.filter_cons, z_cat, z_catI, z_catJ, z_catF, z_catD]) (fun ls hl => ?_)
    refine lv_dload_n hx hb dX5_value_17 rfl (lv_at hl 0 rfl) ?_
    refine zr_aload_n (r := some h0) hx hb dX5_value_18 rfl (lv_at hl 1 rfl) ?_
    refine lv_iload_n hx hb dX5_value_19 rfl (lv_at hl 2 rfl) ?_
    obtain ⟨a_13, ci_14, fs_15, er, he, hc, hw⟩ := zo_e hw
    obtain rfl := List.mem_singleton.mp hc
    refine zr_calli (zw_runV (As := [.int x1]) hk hH hz hS hl.1 er hw (cwV 1 hts (lw_V q3042 q3044 qs91 q162 q3045) rfl rfl rfl (by decide +kernel) (z_room (Nat.le_of_ble_eq_true rfl))) he rfl rfl rfl (Nat.le_of_ble_eq_true rfl) dX5_value_20 ⟨Nat.le_of_ble_eq_true rfl, Nat.le_of_ble_eq_true rfl⟩) hS (fun x_9 hp_7 nx_8 hw H locs hH hz hS => ?_)
    refine zr_calll (zr_runS (As := [.double x_6, .int x_9]) hk hH hz hS hl.1 hw (va_cwS 2 hts (lw_S q3046 q3047 q162 q3048) rfl rfl rfl (by decide +kernel) (z_room (Nat.le_of_ble_eq_true rfl))) rfl rfl (Nat.le_of_ble_eq_true rfl) dX5_value_23 ⟨Nat.le_of_ble_eq_true rfl, Nat.le_of_ble_eq_true rfl⟩) hS (fun x_12 hp_10 nx_11 hw H locs hH hz hS => ?_)
    exact zr_lret hk hr hH hz hS hw (Nat.le_of_ble_eq_true rfl) (Nat.le_of_ble_eq_true rfl) dX5_value_26
  · have hw := hw.1 hc
    refine lv_ldc2 hx hb hown (hts _ q3037) dX5_value_7 ?_
    exact zr_lret hk hr hH hz hS hw (Nat.le_of_ble_eq_true rfl) (Nat.le_of_ble_eq_true rfl) dX5_value_10
def wp_X5_valueNow (l : Launch) (g : zG) (d : Nat) (h0 : Nat) (x1 : Int32) (hp : zHp) (nx : Nat) (Post : UInt64 → zHp → Nat → Prop) : Prop :=
  (zo hp (some h0) [5] fun a_15 ci_16 fs_17 => zMt l g yX5_tellNow cX5_tellNow 2 none d 0 0 (.ref a_15 :: [.int x1]) hp nx (zQv g fun hp_1 nx_2 =>
  (zgR hp_1 (some h0) [5] 20 fun r_6 =>
  (zaR (g.2.1 15) hp_1 r_6 fun a_7 n_8 f_9 => vp_in (0 : Int32) n_8 ∧ ∀ r_10 : Option Nat, r_10 = f_9 (0 : Int32).toNatClampNeg →
  (zaD (g.2.1 1) hp_1 r_10 fun a_11 n_12 f_13 => vp_in x1 n_12 ∧ ∀ x_14 : UInt64, x_14 = f_13 x1.toNatClampNeg →
  (Post x_14 hp_1 nx_2))))))
set_option maxHeartbeats 40000000 in
theorem met_X5_valueNow {l : Launch} {g : zG} {d : Nat} {h0 : Nat} {x1 : Int32} {hp : zHp} {nx : Nat} {Post : UInt64 → zHp → Nat → Prop} (hw : wp_X5_valueNow l g d h0 x1 hp nx Post) : zMt l g yX5_valueNow cX5_valueNow 2 (some .double) (d + 1) 0 0 [.ref h0, .int x1] hp nx (zQd g Post) := by
  refine z_start (by decide) (Nat.le_of_ble_eq_true rfl) ?_
  intro p e s m below meth c hk hr hin hH hz ls hl
  have hx := hk.1.1
  have hb := hk.1.2.1
  have hown := hk.1.2.2.2.1
  have hts := hk.1.2.2.2.2
  have hS : va_S (zAd g) s.heap s.heap [] := va_S.rf
  have hl : lv_has ls 2 [(0, va_rf (some h0)), (1, .int x1)] := hl
  unfold wp_X5_valueNow at hw
  refine zr_aload_n (r := some h0) hx hb dX5_valueNow_0 rfl (lv_at hl 0 rfl) ?_
  refine lv_iload_n hx hb dX5_valueNow_1 rfl (lv_at hl 1 rfl) ?_
  obtain ⟨a_15, ci_16, fs_17, er, he, hc, hw⟩ := zo_e hw
  obtain rfl := List.mem_singleton.mp hc
  refine zr_callv (zw_runV (As := [.int x1]) hk hH hz hS hl.1 er hw (cwV 1 hts (lw_V q2995 q2997 qs81 q162 q2998) rfl rfl rfl (by decide +kernel) (z_room (Nat.le_of_ble_eq_true rfl))) he rfl rfl rfl (Nat.le_of_ble_eq_true rfl) dX5_valueNow_2 ⟨Nat.le_of_ble_eq_true rfl, Nat.le_of_ble_eq_true rfl⟩) hS (fun hp_1 nx_2 hw H locs hH hz hS => ?_)
  refine zr_aload_n (r := some h0) hx hb dX5_valueNow_5 rfl (lv_at hl 0 rfl) ?_
  obtain ⟨a_3, ci_4, fs_5, r_6, er, he, hc, hv, hw⟩ := zgR_e hw
  refine zw_get hk hH er he hv (fk_X5_75 hc) dX5_valueNow_6 ?_
  refine lv_iconst (v := (0 : Int32)) hx hb dX5_valueNow_9 (by decide) ?_
  obtain ⟨a_7, n_8, f_9, er, he, hi, hw⟩ := zaR_e hw
  have hw := hw _ rfl
  refine zw_aald hk hH 15 er he rfl rfl hi dX5_valueNow_10 ?_
  generalize f_9 (0 : Int32).toNatClampNeg = r_10 at hw ⊢
  refine lv_iload_n hx hb dX5_valueNow_11 rfl (lv_at hl 1 rfl) ?_
  obtain ⟨a_11, n_12, f_13, er, he, hi, hw⟩ := zaD_e hw
  have hw := hw _ rfl
  refine zw_dald hk hH er he hi dX5_valueNow_12 ?_
  generalize f_13 x1.toNatClampNeg = x_14 at hw ⊢
  exact zr_dret hk hr hH hz hS hw (Nat.le_of_ble_eq_true rfl) (Nat.le_of_ble_eq_true rfl) dX5_valueNow_13
def wp_X5_errorOf (l : Launch) (g : zG) (d : Nat) (h0 : Nat) (x1 : Int32) (hp : zHp) (nx : Nat) (Post : Int32 → zHp → Nat → Prop) : Prop :=
  (zgR hp (some h0) [5] 21 fun r_4 =>
  (zaR (g.2.1 14) hp r_4 fun a_5 n_6 f_7 => vp_in (0 : Int32) n_6 ∧ ∀ r_8 : Option Nat, r_8 = f_7 (0 : Int32).toNatClampNeg →
  (zaI (g.2.1 0) hp r_8 fun a_9 n_10 f_11 => vp_in x1 n_10 ∧ ∀ x_12 : Int32, x_12 = f_11 x1.toNatClampNeg →
  (Post x_12 hp nx))))
set_option maxHeartbeats 40000000 in
theorem met_X5_errorOf {l : Launch} {g : zG} {d : Nat} {h0 : Nat} {x1 : Int32} {hp : zHp} {nx : Nat} {Post : Int32 → zHp → Nat → Prop} (hw : wp_X5_errorOf l g d h0 x1 hp nx Post) : zMt l g yX5_errorOf cX5_errorOf 2 (some .int) (d + 1) 0 0 [.ref h0, .int x1] hp nx (zQi g Post) := by
  refine z_start (by decide) (Nat.le_of_ble_eq_true rfl) ?_
  intro p e s m below meth c hk hr hin hH hz ls hl
  have hx := hk.1.1
  have hb := hk.1.2.1
  have hown := hk.1.2.2.2.1
  have hts := hk.1.2.2.2.2
  have hS : va_S (zAd g) s.heap s.heap [] := va_S.rf
  have hl : lv_has ls 2 [(0, va_rf (some h0)), (1, .int x1)] := hl
  unfold wp_X5_errorOf at hw
  refine zr_aload_n (r := some h0) hx hb dX5_errorOf_0 rfl (lv_at hl 0 rfl) ?_
  obtain ⟨a_1, ci_2, fs_3, r_4, er, he, hc, hv, hw⟩ := zgR_e hw
  refine zw_get hk hH er he hv (fk_X5_78 hc) dX5_errorOf_1 ?_
  refine lv_iconst (v := (0 : Int32)) hx hb dX5_errorOf_4 (by decide) ?_
  obtain ⟨a_5, n_6, f_7, er, he, hi, hw⟩ := zaR_e hw
  have hw := hw _ rfl
  refine zw_aald hk hH 14 er he rfl rfl hi dX5_errorOf_5 ?_
  generalize f_7 (0 : Int32).toNatClampNeg = r_8 at hw ⊢
  refine lv_iload_n hx hb dX5_errorOf_6 rfl (lv_at hl 1 rfl) ?_
  obtain ⟨a_9, n_10, f_11, er, he, hi, hw⟩ := zaI_e hw
  have hw := hw _ rfl
  refine zw_iald hk hH er he hi dX5_errorOf_7 ?_
  generalize f_11 x1.toNatClampNeg = x_12 at hw ⊢
  exact zr_iret hk hr hH hz hS hw (Nat.le_of_ble_eq_true rfl) (Nat.le_of_ble_eq_true rfl) dX5_errorOf_8
def wp_X5_answer (l : Launch) (g : zG) (d : Nat) (x0 : UInt64) (x2 : Int32) (hp : zHp) (nx : Nat) (Post : Int64 → zHp → Nat → Prop) : Prop :=
  (∃ P_17 : Int64 → zHp → Nat → Prop, (∀ (x_1 : Int64) (hp_2 : zHp) (nx_3 : Nat), P_17 x_1 hp_2 nx_3 →
  (Post x_1 hp_2 nx_3)) ∧
  ((x2 = 0 →
  (zMt l g yX5_bits cX5_bits 2 (some .long) d 0 0 [.double x0] hp nx (zQl g fun x_6 hp_4 nx_5 =>
  P_17 x_6 hp_4 nx_5))) ∧
  (¬ x2 = 0 →
  P_17 ((-20 : Int64) - x2.toInt64) hp nx)))
set_option maxHeartbeats 40000000 in
theorem met_X5_answer {l : Launch} {g : zG} {d : Nat} {x0 : UInt64} {x2 : Int32} {hp : zHp} {nx : Nat} {Post : Int64 → zHp → Nat → Prop} (hw : wp_X5_answer l g d x0 x2 hp nx Post) : zMt l g yX5_answer cX5_answer 3 (some .long) (d + 1) 0 0 [.double x0, .int x2] hp nx (zQl g Post) := by
  refine z_start (by decide) (Nat.le_of_ble_eq_true rfl) ?_
  intro p e s m below meth c hk hr hin hH hz ls hl
  have hx := hk.1.1
  have hb := hk.1.2.1
  have hown := hk.1.2.2.2.1
  have hts := hk.1.2.2.2.2
  have hS : va_S (zAd g) s.heap s.heap [] := va_S.rf
  have hl : lv_has ls 3 [(0, .double x0), (2, .int x2)] := hl
  unfold wp_X5_answer at hw
  refine lv_iload_n hx hb dX5_answer_0 rfl (lv_at hl 1 rfl) ?_
  obtain ⟨P_17, hP_17, hw⟩ := hw
  have hJ_17 : ∀ (x_1 : Int64) (hp_2 : zHp) (nx_3 : Nat) (H : Heap) (locs : List Loc) (ls : Array Slot), P_17 x_1 hp_2 nx_3 → lv_has ls 3 [(0, .double x0), (2, .int x2)] → zHd g hp_2 H → H.size = nx_3 → va_S (zAd g) s.heap H locs → W p l e (zrm (d + 1) 0 0) s m ([.double x0, .int x2] : List Value).toArray below meth c H locs 0 0 (MQ below (zQl g Post) ([.double x0, .int x2] : List Value).toArray s 0 0 (zAd g)) (F0 m 17 ls [.long x_1]) := by
    intro x_1 hp_2 nx_3 H locs ls hw hl hH hz hS
    have hw := hP_17 x_1 hp_2 nx_3 hw
    exact zr_lret hk hr hH hz hS hw (Nat.le_of_ble_eq_true rfl) (Nat.le_of_ble_eq_true rfl) dX5_answer_17
  refine lv_if_ne (tgt := 11) hx hb dX5_answer_1 (by decide) (fun hc => ?_) (fun hc => ?_)
  · have hw := hw.2 hc
    refine lv_ldc2 hx hb hown (hts _ q3053) dX5_answer_11 ?_
    refine lv_iload_n hx hb dX5_answer_14 rfl (lv_at hl 1 rfl) ?_
    refine lv_i2l hx hb dX5_answer_15 rfl ?_
    refine lv_lsub hx hb dX5_answer_16 ?_
    exact hJ_17 ((-20 : Int64) - x2.toInt64) hp nx _ _ _ hw hl hH hz hS
  · have hw := hw.1 hc
    refine lv_dload_n hx hb dX5_answer_4 rfl (lv_at hl 0 rfl) ?_
    refine zr_calll (zr_runS (As := [.double x0]) hk hH hz hS hl.1 hw (va_cwS 1 hts (lw_S q3049 q3050 q162 q3051) rfl rfl rfl (by decide +kernel) (z_room (Nat.le_of_ble_eq_true rfl))) rfl rfl (Nat.le_of_ble_eq_true rfl) dX5_answer_5 ⟨Nat.le_of_ble_eq_true rfl, Nat.le_of_ble_eq_true rfl⟩) hS (fun x_6 hp_4 nx_5 hw H locs hH hz hS => ?_)
    refine lv_goto (tgt := 17) hx hb dX5_answer_8 (by decide) ?_
    exact hJ_17 x_6 hp_4 nx_5 _ _ _ hw hl hH hz hS
def wp_X5_bits (l : Launch) (g : zG) (d : Nat) (x0 : UInt64) (hp : zHp) (nx : Nat) (Post : Int64 → zHp → Nat → Prop) : Prop :=
  (zMt l g yJ23_doubleToLongBits cJ23_doubleToLongBits 2 (some .long) d 0 0 [.double x0] hp nx (zQl g fun x_3 hp_1 nx_2 =>
  (Post x_3 hp_1 nx_2)))
set_option maxHeartbeats 40000000 in
theorem met_X5_bits {l : Launch} {g : zG} {d : Nat} {x0 : UInt64} {hp : zHp} {nx : Nat} {Post : Int64 → zHp → Nat → Prop} (hw : wp_X5_bits l g d x0 hp nx Post) : zMt l g yX5_bits cX5_bits 2 (some .long) (d + 1) 0 0 [.double x0] hp nx (zQl g Post) := by
  refine z_start (by decide) (Nat.le_of_ble_eq_true rfl) ?_
  intro p e s m below meth c hk hr hin hH hz ls hl
  have hx := hk.1.1
  have hb := hk.1.2.1
  have hown := hk.1.2.2.2.1
  have hts := hk.1.2.2.2.2
  have hS : va_S (zAd g) s.heap s.heap [] := va_S.rf
  have hl : lv_has ls 2 [(0, .double x0)] := hl
  unfold wp_X5_bits at hw
  refine lv_dload_n hx hb dX5_bits_0 rfl (lv_at hl 0 rfl) ?_
  refine zr_calll (zr_runS (As := [.double x0]) hk hH hz hS hl.1 hw (va_cwS 1 hts (lw_S q3052 q2301 q168 q2302) rfl rfl rfl (by decide +kernel) (z_room (Nat.le_of_ble_eq_true rfl))) rfl rfl (Nat.le_of_ble_eq_true rfl) dX5_bits_1 ⟨Nat.le_of_ble_eq_true rfl, Nat.le_of_ble_eq_true rfl⟩) hS (fun x_3 hp_1 nx_2 hw H locs hH hz hS => ?_)
  exact zr_lret hk hr hH hz hS hw (Nat.le_of_ble_eq_true rfl) (Nat.le_of_ble_eq_true rfl) dX5_bits_4
def wp_X5_would (l : Launch) (g : zG) (d : Nat) (h0 : Nat) (x1 : Int32) (x2 : Int32) (x3 : Int32) (hp : zHp) (nx : Nat) (Post : Int64 → zHp → Nat → Prop) : Prop :=
  (zMt l g yX5_isCell cX5_isCell 1 (some .boolean) d 0 0 [.int x1] hp nx (zQi g fun x_3 hp_1 nx_2 =>
  (∃ P_21 : zHp → Nat → Prop, (∀ (hp_4 : zHp) (nx_5 : Nat), P_21 hp_4 nx_5 →
  (Post (-2 : Int64) hp_4 nx_5)) ∧
  ((x_3 = 0 →
  P_21 hp_1 nx_2) ∧
  (¬ x_3 = 0 →
  (zMt l g yX5_isEighths cX5_isEighths 1 (some .boolean) d 0 0 [.int x2] hp_1 nx_2 (zQi g fun x_8 hp_6 nx_7 =>
  ((x_8 = 0 →
  P_21 hp_6 nx_7) ∧
  (¬ x_8 = 0 →
  (zMt l g yX5_isCell cX5_isCell 1 (some .boolean) d 0 0 [.int x3] hp_6 nx_7 (zQi g fun x_11 hp_9 nx_10 =>
  ((x_11 = 0 →
  P_21 hp_9 nx_10) ∧
  (¬ x_11 = 0 →
  (zo hp_9 (some h0) [5] fun a_30 ci_31 fs_32 => zMt l g yX5_isInput cX5_isInput 2 (some .boolean) d 0 0 (.ref a_30 :: [.int x1]) hp_9 nx_10 (zQi g fun x_14 hp_12 nx_13 =>
  ((x_14 = 0 →
  (Post (-3 : Int64) hp_12 nx_13)) ∧
  (¬ x_14 = 0 →
  (vf_n64 (FP.ddiv (FP.i2d x2) (4620693217682128896 : UInt64)) ∧ (zo hp_12 (some h0) [5] fun a_27 ci_28 fs_29 => zMt l g yX5_valueBy cX5_valueBy 10 (some .double) d 0 0 (.ref a_27 :: [.int x1, .double (FP.ddiv (FP.i2d x2) (4620693217682128896 : UInt64)), .int x3]) hp_12 nx_13 (zQd g fun x_17 hp_15 nx_16 =>
  (zo hp_15 (some h0) [5] fun a_24 ci_25 fs_26 => zMt l g yX5_errorOf cX5_errorOf 2 (some .int) d 0 0 (.ref a_24 :: [.int x3]) hp_15 nx_16 (zQi g fun x_20 hp_18 nx_19 =>
  (zMt l g yX5_answer cX5_answer 3 (some .long) d 0 0 [.double x_17, .int x_20] hp_18 nx_19 (zQl g fun x_23 hp_21 nx_22 =>
  (Post x_23 hp_21 nx_22)))))))))))))))))))))))))
set_option maxHeartbeats 40000000 in
theorem met_X5_would {l : Launch} {g : zG} {d : Nat} {h0 : Nat} {x1 : Int32} {x2 : Int32} {x3 : Int32} {hp : zHp} {nx : Nat} {Post : Int64 → zHp → Nat → Prop} (hw : wp_X5_would l g d h0 x1 x2 x3 hp nx Post) : zMt l g yX5_would cX5_would 6 (some .long) (d + 1) 0 0 [.ref h0, .int x1, .int x2, .int x3] hp nx (zQl g Post) := by
  refine z_start (by decide) (Nat.le_of_ble_eq_true rfl) ?_
  intro p e s m below meth c hk hr hin hH hz ls hl
  have hx := hk.1.1
  have hb := hk.1.2.1
  have hown := hk.1.2.2.2.1
  have hts := hk.1.2.2.2.2
  have hS : va_S (zAd g) s.heap s.heap [] := va_S.rf
  have hl : lv_has ls 6 [(0, va_rf (some h0)), (1, .int x1), (2, .int x2), (3, .int x3)] := hl
  unfold wp_X5_would at hw
  refine lv_iload_n hx hb dX5_would_0 rfl (lv_at hl 1 rfl) ?_
  refine zr_calli (zr_runS (As := [.int x1]) hk hH hz hS hl.1 hw (va_cwS 1 hts (lw_S q2908 q2909 q162 q2910) rfl rfl rfl (by decide +kernel) (z_room (Nat.le_of_ble_eq_true rfl))) rfl rfl (Nat.le_of_ble_eq_true rfl) dX5_would_1 ⟨Nat.le_of_ble_eq_true rfl, Nat.le_of_ble_eq_true rfl⟩) hS (fun x_3 hp_1 nx_2 hw H locs hH hz hS => ?_)
  obtain ⟨P_21, hP_21, hw⟩ := hw
  have hJ_21 : ∀ (hp_4 : zHp) (nx_5 : Nat) (H : Heap) (locs : List Loc) (ls : Array Slot), P_21 hp_4 nx_5 → lv_has ls 6 [(0, va_rf (some h0)), (1, .int x1), (2, .int x2), (3, .int x3)] → zHd g hp_4 H → H.size = nx_5 → va_S (zAd g) s.heap H locs → W p l e (zrm (d + 1) 0 0) s m ([.ref h0, .int x1, .int x2, .int x3] : List Value).toArray below meth c H locs 0 0 (MQ below (zQl g Post) ([.ref h0, .int x1, .int x2, .int x3] : List Value).toArray s 0 0 (zAd g)) (F0 m 21 ls []) := by
    intro hp_4 nx_5 H locs ls hw hl hH hz hS
    have hw := hP_21 hp_4 nx_5 hw
    refine lv_ldc2 hx hb hown (hts _ q3037) dX5_would_21 ?_
    exact zr_lret hk hr hH hz hS hw (Nat.le_of_ble_eq_true rfl) (Nat.le_of_ble_eq_true rfl) dX5_would_24
  refine lv_if_eq (tgt := 21) hx hb dX5_would_4 (by decide) (fun hc => ?_) (fun hc => ?_)
  · have hw := hw.1 hc
    exact hJ_21 hp_1 nx_2 _ _ _ hw hl hH hz hS
  · have hw := hw.2 hc
    refine lv_iload_n hx hb dX5_would_7 rfl (lv_at hl 2 rfl) ?_
    refine zr_calli (zr_runS (As := [.int x2]) hk hH hz hS hl.1 hw (va_cwS 1 hts (lw_S q2914 q2915 q162 q2916) rfl rfl rfl (by decide +kernel) (z_room (Nat.le_of_ble_eq_true rfl))) rfl rfl (Nat.le_of_ble_eq_true rfl) dX5_would_8 ⟨Nat.le_of_ble_eq_true rfl, Nat.le_of_ble_eq_true rfl⟩) hS (fun x_8 hp_6 nx_7 hw H locs hH hz hS => ?_)
    refine lv_if_eq (tgt := 21) hx hb dX5_would_11 (by decide) (fun hc => ?_) (fun hc => ?_)
    · have hw := hw.1 hc
      exact hJ_21 hp_6 nx_7 _ _ _ hw hl hH hz hS
    · have hw := hw.2 hc
      refine lv_iload_n hx hb dX5_would_14 rfl (lv_at hl 3 rfl) ?_
      refine zr_calli (zr_runS (As := [.int x3]) hk hH hz hS hl.1 hw (va_cwS 1 hts (lw_S q2908 q2909 q162 q2910) rfl rfl rfl (by decide +kernel) (z_room (Nat.le_of_ble_eq_true rfl))) rfl rfl (Nat.le_of_ble_eq_true rfl) dX5_would_15 ⟨Nat.le_of_ble_eq_true rfl, Nat.le_of_ble_eq_true rfl⟩) hS (fun x_11 hp_9 nx_10 hw H locs hH hz hS => ?_)
      refine lv_if_ne (tgt := 25) hx hb dX5_would_18 (by decide) (fun hc => ?_) (fun hc => ?_)
      · have hw := hw.2 hc
        refine zr_aload_n (r := some h0) hx hb dX5_would_25 rfl (lv_at hl 0 rfl) ?_
        refine lv_iload_n hx hb dX5_would_26 rfl (lv_at hl 1 rfl) ?_
        obtain ⟨a_30, ci_31, fs_32, er, he, hc, hw⟩ := zo_e hw
        obtain rfl := List.mem_singleton.mp hc
        refine zr_calli (zw_runV (As := [.int x1]) hk hH hz hS hl.1 er hw (cwV 1 hts (lw_V q2919 q2921 qs69 q162 q2922) rfl rfl rfl (by decide +kernel) (z_room (Nat.le_of_ble_eq_true rfl))) he rfl rfl rfl (Nat.le_of_ble_eq_true rfl) dX5_would_27 ⟨Nat.le_of_ble_eq_true rfl, Nat.le_of_ble_eq_true rfl⟩) hS (fun x_14 hp_12 nx_13 hw H locs hH hz hS => ?_)
        refine lv_if_ne (tgt := 37) hx hb dX5_would_30 (by decide) (fun hc => ?_) (fun hc => ?_)
        · have hw := hw.2 hc
          refine zr_aload_n (r := some h0) hx hb dX5_would_37 rfl (lv_at hl 0 rfl) ?_
          refine lv_iload_n hx hb dX5_would_38 rfl (lv_at hl 1 rfl) ?_
          refine lv_iload_n hx hb dX5_would_39 rfl (lv_at hl 2 rfl) ?_
          refine lv_i2d hx hb dX5_would_40 ?_
          refine lv_ldc2d hx hb hown (hts _ q2923) dX5_would_41 ?_
          obtain ⟨hne, hw⟩ := hw
          refine lv_ddiv hx hb dX5_would_44 hne ?_
          refine lv_iload_n hx hb dX5_would_45 rfl (lv_at hl 3 rfl) ?_
          obtain ⟨a_27, ci_28, fs_29, er, he, hc, hw⟩ := zo_e hw
          obtain rfl := List.mem_singleton.mp hc
          refine zr_calld (zw_runV (As := [.int x1, .double (FP.ddiv (FP.i2d x2) (4620693217682128896 : UInt64)), .int x3]) hk hH hz hS hl.1 er hw (cwV 3 hts (lw_V q3059 q3061 qs92 q162 q3062) rfl rfl rfl (by decide +kernel) (z_room (Nat.le_of_ble_eq_true rfl))) he rfl rfl rfl (Nat.le_of_ble_eq_true rfl) dX5_would_46 ⟨Nat.le_of_ble_eq_true rfl, Nat.le_of_ble_eq_true rfl⟩) hS (fun x_17 hp_15 nx_16 hw H locs hH hz hS => ?_)
          refine lv_dstore (lv' := [(4, .double x_17), (0, va_rf (some h0)), (1, .int x1), (2, .int x2), (3, .int x3)]) hx hb dX5_would_49 hl (by decide) (by first | rfl | simp [List.filter_cons, z_cat, z_catI, z_catJ, z_catF, z_catD]) (fun ls hl => ?_)
          refine lv_dload hx hb dX5_would_51 (lv_at hl 0 rfl) ?_
          refine zr_aload_n (r := some h0) hx hb dX5_would_53 rfl (lv_at hl 1 rfl) ?_
          refine lv_iload_n hx hb dX5_would_54 rfl (lv_at hl 4 rfl) ?_
          obtain ⟨a_24, ci_25, fs_26, er, he, hc, hw⟩ := zo_e hw
          obtain rfl := List.mem_singleton.mp hc
          refine zr_calli (zw_runV (As := [.int x3]) hk hH hz hS hl.1 er hw (cwV 1 hts (lw_V q3042 q3044 qs91 q162 q3045) rfl rfl rfl (by decide +kernel) (z_room (Nat.le_of_ble_eq_true rfl))) he rfl rfl rfl (Nat.le_of_ble_eq_true rfl) dX5_would_55 ⟨Nat.le_of_ble_eq_true rfl, Nat.le_of_ble_eq_true rfl⟩) hS (fun x_20 hp_18 nx_19 hw H locs hH hz hS => ?_)
          refine zr_calll (zr_runS (As := [.double x_17, .int x_20]) hk hH hz hS hl.1 hw (va_cwS 2 hts (lw_S q3046 q3047 q162 q3048) rfl rfl rfl (by decide +kernel) (z_room (Nat.le_of_ble_eq_true rfl))) rfl rfl (Nat.le_of_ble_eq_true rfl) dX5_would_58 ⟨Nat.le_of_ble_eq_true rfl, Nat.le_of_ble_eq_true rfl⟩) hS (fun x_23 hp_21 nx_22 hw H locs hH hz hS => ?_)
          exact zr_lret hk hr hH hz hS hw (Nat.le_of_ble_eq_true rfl) (Nat.le_of_ble_eq_true rfl) dX5_would_61
        · have hw := hw.1 hc
          refine lv_ldc2 hx hb hown (hts _ q3058) dX5_would_33 ?_
          exact zr_lret hk hr hH hz hS hw (Nat.le_of_ble_eq_true rfl) (Nat.le_of_ble_eq_true rfl) dX5_would_36
      · have hw := hw.1 hc
        exact hJ_21 hp_9 nx_10 _ _ _ hw hl hH hz hS
def wp_X5_valueBy (l : Launch) (g : zG) (d : Nat) (h0 : Nat) (x1 : Int32) (x2 : UInt64) (x4 : Int32) (hp : zHp) (nx : Nat) (Post : UInt64 → zHp → Nat → Prop) : Prop :=
  (zgR hp (some h0) [5] 2 fun r_4 =>
  (zaD (g.2.1 1) hp r_4 fun a_5 n_6 f_7 => vp_in x1 n_6 ∧ ∀ x_8 : UInt64, x_8 = f_7 x1.toNatClampNeg →
  (zgR hp (some h0) [5] 1 fun r_12 =>
  (zaI (g.2.1 3) hp r_12 fun a_13 n_14 f_15 => vp_in x1 n_14 ∧ ∀ x_16 : Int32, x_16 = f_15 x1.toNatClampNeg →
  (zgR hp (some h0) [5] 2 fun r_20 =>
  (zaD (g.2.1 1) hp r_20 fun a_21 n_22 f_23 => vp_in x1 n_22 ∧ zB g ≤ a_21 ∧ ∀ hp_24 : zHp, hp_24 = va_up hp a_21 (some (.inl (g.2.1 1, n_22, .inr (.inr (.inr (.inl (va_up f_23 x1.toNatClampNeg x2))))))) →
  (zgR hp_24 (some h0) [5] 1 fun r_28 =>
  (zaI (g.2.1 3) hp_24 r_28 fun a_29 n_30 f_31 => vp_in x1 n_30 ∧ zB g ≤ a_29 ∧ ∀ hp_32 : zHp, hp_32 = va_up hp_24 a_29 (some (.inl (g.2.1 3, n_30, .inl (va_up f_31 x1.toNatClampNeg (vp_nar .boolean (1 : Int32)))))) →
  (zo hp_32 (some h0) [5] fun a_52 ci_53 fs_54 => zMt l g yX5_valueNow cX5_valueNow 2 (some .double) d 0 0 (.ref a_52 :: [.int x4]) hp_32 nx (zQd g fun x_35 hp_33 nx_34 =>
  (zgR hp_33 (some h0) [5] 2 fun r_39 =>
  (zaD (g.2.1 1) hp_33 r_39 fun a_40 n_41 f_42 => vp_in x1 n_41 ∧ zB g ≤ a_40 ∧ ∀ hp_43 : zHp, hp_43 = va_up hp_33 a_40 (some (.inl (g.2.1 1, n_41, .inr (.inr (.inr (.inl (va_up f_42 x1.toNatClampNeg x_8))))))) →
  (zgR hp_43 (some h0) [5] 1 fun r_47 =>
  (zaI (g.2.1 3) hp_43 r_47 fun a_48 n_49 f_50 => vp_in x1 n_49 ∧ zB g ≤ a_48 ∧ ∀ hp_51 : zHp, hp_51 = va_up hp_43 a_48 (some (.inl (g.2.1 3, n_49, .inl (va_up f_50 x1.toNatClampNeg (vp_nar .boolean x_16))))) →
  (Post x_35 hp_51 nx_34)))))))))))))))
set_option maxHeartbeats 40000000 in
theorem met_X5_valueBy {l : Launch} {g : zG} {d : Nat} {h0 : Nat} {x1 : Int32} {x2 : UInt64} {x4 : Int32} {hp : zHp} {nx : Nat} {Post : UInt64 → zHp → Nat → Prop} (hw : wp_X5_valueBy l g d h0 x1 x2 x4 hp nx Post) : zMt l g yX5_valueBy cX5_valueBy 10 (some .double) (d + 1) 0 0 [.ref h0, .int x1, .double x2, .int x4] hp nx (zQd g Post) := by
  refine z_start (by decide) (Nat.le_of_ble_eq_true rfl) ?_
  intro p e s m below meth c hk hr hin hH hz ls hl
  have hx := hk.1.1
  have hb := hk.1.2.1
  have hown := hk.1.2.2.2.1
  have hts := hk.1.2.2.2.2
  have hS : va_S (zAd g) s.heap s.heap [] := va_S.rf
  have hl : lv_has ls 10 [(0, va_rf (some h0)), (1, .int x1), (2, .double x2), (4, .int x4)] := hl
  unfold wp_X5_valueBy at hw
  refine zr_aload_n (r := some h0) hx hb dX5_valueBy_0 rfl (lv_at hl 0 rfl) ?_
  obtain ⟨a_1, ci_2, fs_3, r_4, er, he, hc, hv, hw⟩ := zgR_e hw
  refine zw_get hk hH er he hv (fk_X5_17 hc) dX5_valueBy_1 ?_
  refine lv_iload_n hx hb dX5_valueBy_4 rfl (lv_at hl 1 rfl) ?_
  obtain ⟨a_5, n_6, f_7, er, he, hi, hw⟩ := zaD_e hw
  have hw := hw _ rfl
  refine zw_dald hk hH er he hi dX5_valueBy_5 ?_
  generalize f_7 x1.toNatClampNeg = x_8 at hw ⊢
  refine lv_dstore (lv' := [(5, .double x_8), (0, va_rf (some h0)), (1, .int x1), (2, .double x2), (4, .int x4)]) hx hb dX5_valueBy_6 hl (by decide) (by first | rfl | simp [List.filter_cons, z_cat, z_catI, z_catJ, z_catF, z_catD]) (fun ls hl => ?_)
  refine zr_aload_n (r := some h0) hx hb dX5_valueBy_8 rfl (lv_at hl 1 rfl) ?_
  obtain ⟨a_9, ci_10, fs_11, r_12, er, he, hc, hv, hw⟩ := zgR_e hw
  refine zw_get hk hH er he hv (fk_X5_13 hc) dX5_valueBy_9 ?_
  refine lv_iload_n hx hb dX5_valueBy_12 rfl (lv_at hl 2 rfl) ?_
  obtain ⟨a_13, n_14, f_15, er, he, hi, hw⟩ := zaI_e hw
  have hw := hw _ rfl
  refine zw_zald hk hH er he hi dX5_valueBy_13 ?_
  generalize f_15 x1.toNatClampNeg = x_16 at hw ⊢
  refine lv_istore (lv' := [(7, .int x_16), (5, .double x_8), (0, va_rf (some h0)), (1, .int x1), (2, .double x2), (4, .int x4)]) hx hb dX5_valueBy_14 hl (by decide) (by first | rfl | simp [List.filter_cons, z_cat, z_catI, z_catJ, z_catF, z_catD]) (fun ls hl => ?_)
  refine zr_aload_n (r := some h0) hx hb dX5_valueBy_16 rfl (lv_at hl 2 rfl) ?_
  obtain ⟨a_17, ci_18, fs_19, r_20, er, he, hc, hv, hw⟩ := zgR_e hw
  refine zw_get hk hH er he hv (fk_X5_17 hc) dX5_valueBy_17 ?_
  refine lv_iload_n hx hb dX5_valueBy_20 rfl (lv_at hl 3 rfl) ?_
  refine lv_dload_n hx hb dX5_valueBy_21 rfl (lv_at hl 4 rfl) ?_
  obtain ⟨a_21, n_22, f_23, er, he, hi, hA, hw⟩ := zaD_e hw
  obtain ⟨hp_24, eh⟩ : ∃ y : zHp, y = va_up hp a_21 (some (.inl (g.2.1 1, n_22, .inr (.inr (.inr (.inl (va_up f_23 x1.toNatClampNeg x2))))))) := ⟨_, rfl⟩
  have hw := hw hp_24 eh
  refine zw_dast hk hH hz hS er he hi hA eh dX5_valueBy_22 (fun H locs hH hz hS => ?_)
  refine zr_aload_n (r := some h0) hx hb dX5_valueBy_23 rfl (lv_at hl 2 rfl) ?_
  obtain ⟨a_25, ci_26, fs_27, r_28, er, he, hc, hv, hw⟩ := zgR_e hw
  refine zw_get hk hH er he hv (fk_X5_13 hc) dX5_valueBy_24 ?_
  refine lv_iload_n hx hb dX5_valueBy_27 rfl (lv_at hl 3 rfl) ?_
  refine lv_iconst (v := (1 : Int32)) hx hb dX5_valueBy_28 (by decide) ?_
  obtain ⟨a_29, n_30, f_31, er, he, hi, hA, hw⟩ := zaI_e hw
  obtain ⟨hp_32, eh⟩ : ∃ y : zHp, y = va_up hp_24 a_29 (some (.inl (g.2.1 3, n_30, .inl (va_up f_31 x1.toNatClampNeg (vp_nar .boolean (1 : Int32)))))) := ⟨_, rfl⟩
  have hw := hw hp_32 eh
  refine zw_zast hk hH hz hS er he hi hA eh dX5_valueBy_29 (fun H locs hH hz hS => ?_)
  refine zr_aload_n (r := some h0) hx hb dX5_valueBy_30 rfl (lv_at hl 2 rfl) ?_
  refine lv_iload hx hb dX5_valueBy_31 (lv_at hl 5 rfl) ?_
  obtain ⟨a_52, ci_53, fs_54, er, he, hc, hw⟩ := zo_e hw
  obtain rfl := List.mem_singleton.mp hc
  refine zr_calld (zw_runV (As := [.int x4]) hk hH hz hS hl.1 er hw (cwV 1 hts (lw_V q3038 q3040 qs90 q162 q3041) rfl rfl rfl (by decide +kernel) (z_room (Nat.le_of_ble_eq_true rfl))) he rfl rfl rfl (Nat.le_of_ble_eq_true rfl) dX5_valueBy_33 ⟨Nat.le_of_ble_eq_true rfl, Nat.le_of_ble_eq_true rfl⟩) hS (fun x_35 hp_33 nx_34 hw H locs hH hz hS => ?_)
  refine lv_dstore (lv' := [(8, .double x_35), (7, .int x_16), (5, .double x_8), (0, va_rf (some h0)), (1, .int x1), (2, .double x2), (4, .int x4)]) hx hb dX5_valueBy_36 hl (by decide) (by first | rfl | simp [List.filter_cons, z_cat, z_catI, z_catJ, z_catF, z_catD]) (fun ls hl => ?_)
  refine zr_aload_n (r := some h0) hx hb dX5_valueBy_38 rfl (lv_at hl 3 rfl) ?_
  obtain ⟨a_36, ci_37, fs_38, r_39, er, he, hc, hv, hw⟩ := zgR_e hw
  refine zw_get hk hH er he hv (fk_X5_17 hc) dX5_valueBy_39 ?_
  refine lv_iload_n hx hb dX5_valueBy_42 rfl (lv_at hl 4 rfl) ?_
  refine lv_dload hx hb dX5_valueBy_43 (lv_at hl 2 rfl) ?_
  obtain ⟨a_40, n_41, f_42, er, he, hi, hA, hw⟩ := zaD_e hw
  obtain ⟨hp_43, eh⟩ : ∃ y : zHp, y = va_up hp_33 a_40 (some (.inl (g.2.1 1, n_41, .inr (.inr (.inr (.inl (va_up f_42 x1.toNatClampNeg x_8))))))) := ⟨_, rfl⟩
  have hw := hw hp_43 eh
  refine zw_dast hk hH hz hS er he hi hA eh dX5_valueBy_45 (fun H locs hH hz hS => ?_)
  refine zr_aload_n (r := some h0) hx hb dX5_valueBy_46 rfl (lv_at hl 3 rfl) ?_
  obtain ⟨a_44, ci_45, fs_46, r_47, er, he, hc, hv, hw⟩ := zgR_e hw
  refine zw_get hk hH er he hv (fk_X5_13 hc) dX5_valueBy_47 ?_
  refine lv_iload_n hx hb dX5_valueBy_50 rfl (lv_at hl 4 rfl) ?_
  refine lv_iload hx hb dX5_valueBy_51 (lv_at hl 1 rfl) ?_
  obtain ⟨a_48, n_49, f_50, er, he, hi, hA, hw⟩ := zaI_e hw
  obtain ⟨hp_51, eh⟩ : ∃ y : zHp, y = va_up hp_43 a_48 (some (.inl (g.2.1 3, n_49, .inl (va_up f_50 x1.toNatClampNeg (vp_nar .boolean x_16))))) := ⟨_, rfl⟩
  have hw := hw hp_51 eh
  refine zw_zast hk hH hz hS er he hi hA eh dX5_valueBy_53 (fun H locs hH hz hS => ?_)
  refine lv_dload hx hb dX5_valueBy_54 (lv_at hl 0 rfl) ?_
  exact zr_dret hk hr hH hz hS hw (Nat.le_of_ble_eq_true rfl) (Nat.le_of_ble_eq_true rfl) dX5_valueBy_56
def wp_X5_taken (l : Launch) (g : zG) (d : Nat) (h0 : Nat) (x1 : Int32) (x2 : Int32) (hp : zHp) (nx : Nat) (Post : Int32 → zHp → Nat → Prop) : Prop :=
  (zMt l g yX5_isCell cX5_isCell 1 (some .boolean) d 0 0 [.int x1] hp nx (zQi g fun x_3 hp_1 nx_2 =>
  (∃ P_16 : zHp → Nat → Prop, (∀ (hp_4 : zHp) (nx_5 : Nat), P_16 hp_4 nx_5 →
  (Post (-2 : Int32) hp_4 nx_5)) ∧
  ((x_3 = 0 →
  P_16 hp_1 nx_2) ∧
  (¬ x_3 = 0 →
  (zMt l g yX5_in cX5_in 3 (some .boolean) d 0 0 [.int x2, .int (0 : Int32), .int (5 : Int32)] hp_1 nx_2 (zQi g fun x_8 hp_6 nx_7 =>
  ((x_8 = 0 →
  P_16 hp_6 nx_7) ∧
  (¬ x_8 = 0 →
  (zgR hp_6 (some h0) [5] 0 fun r_12 =>
  (zaI (g.2.1 0) hp_6 r_12 fun a_13 n_14 f_15 => vp_in x1 n_14 ∧ ∀ x_16 : Int32, x_16 = f_15 x1.toNatClampNeg →
  (∃ P_60 : Int32 → Int32 → zHp → Nat → Prop, (∀ (x_17 : Int32) (x_18 : Int32) (hp_19 : zHp) (nx_20 : Nat), P_60 x_17 x_18 hp_19 nx_20 →
  (∃ P_73 : Int32 → Int32 → Int32 → zHp → Nat → Prop, (∀ (x_21 : Int32) (x_22 : Int32) (x_23 : Int32) (hp_24 : zHp) (nx_25 : Nat), P_73 x_21 x_22 x_23 hp_24 nx_25 →
  (Post x_23 hp_24 nx_25)) ∧
  ((x_18 = 0 →
  P_73 x_17 x_18 (-13 : Int32) hp_19 nx_20) ∧
  (¬ x_18 = 0 →
  P_73 x_17 x_18 x_17 hp_19 nx_20)))) ∧
  (∃ P_55 : Int32 → zHp → Nat → Prop, (∀ (x_26 : Int32) (hp_27 : zHp) (nx_28 : Nat), P_55 x_26 hp_27 nx_28 →
  P_60 x_26 (1 : Int32) hp_27 nx_28) ∧
  ((x2 = 0 →
  P_55 x_16 hp_6 nx_7) ∧
  (¬ x2 = 0 →
  ((x2 = x_16 →
  P_55 x_16 hp_6 nx_7) ∧
  (¬ x2 = x_16 →
  (∃ P_45 : Int32 → zHp → Nat → Prop, (∀ (x_29 : Int32) (hp_30 : zHp) (nx_31 : Nat), P_45 x_29 hp_30 nx_31 →
  (∃ P_59 : Int32 → zHp → Nat → Prop, (∀ (x_32 : Int32) (hp_33 : zHp) (nx_34 : Nat), P_59 x_32 hp_33 nx_34 →
  P_60 x_32 (0 : Int32) hp_33 nx_34) ∧
  ((x2 = (2 : Int32) →
  ((x_29 = (4 : Int32) →
  P_55 x_29 hp_30 nx_31) ∧
  (¬ x_29 = (4 : Int32) →
  P_59 x_29 hp_30 nx_31))) ∧
  (¬ x2 = (2 : Int32) →
  P_59 x_29 hp_30 nx_31)))) ∧
  ((x2 = (1 : Int32) →
  ((x_16 = (3 : Int32) →
  P_55 x_16 hp_6 nx_7) ∧
  (¬ x_16 = (3 : Int32) →
  P_45 x_16 hp_6 nx_7))) ∧
  (¬ x2 = (1 : Int32) →
  P_45 x_16 hp_6 nx_7))))))))))))))))))))
set_option maxHeartbeats 40000000 in
theorem met_X5_taken {l : Launch} {g : zG} {d : Nat} {h0 : Nat} {x1 : Int32} {x2 : Int32} {hp : zHp} {nx : Nat} {Post : Int32 → zHp → Nat → Prop} (hw : wp_X5_taken l g d h0 x1 x2 hp nx Post) : zMt l g yX5_taken cX5_taken 5 (some .int) (d + 1) 0 0 [.ref h0, .int x1, .int x2] hp nx (zQi g Post) := by
  refine z_start (by decide) (Nat.le_of_ble_eq_true rfl) ?_
  intro p e s m below meth c hk hr hin hH hz ls hl
  have hx := hk.1.1
  have hb := hk.1.2.1
  have hown := hk.1.2.2.2.1
  have hts := hk.1.2.2.2.2
  have hS : va_S (zAd g) s.heap s.heap [] := va_S.rf
  have hl : lv_has ls 5 [(0, va_rf (some h0)), (1, .int x1), (2, .int x2)] := hl
  unfold wp_X5_taken at hw
  refine lv_iload_n hx hb dX5_taken_0 rfl (lv_at hl 1 rfl) ?_
  refine zr_calli (zr_runS (As := [.int x1]) hk hH hz hS hl.1 hw (va_cwS 1 hts (lw_S q2908 q2909 q162 q2910) rfl rfl rfl (by decide +kernel) (z_room (Nat.le_of_ble_eq_true rfl))) rfl rfl (Nat.le_of_ble_eq_true rfl) dX5_taken_1 ⟨Nat.le_of_ble_eq_true rfl, Nat.le_of_ble_eq_true rfl⟩) hS (fun x_3 hp_1 nx_2 hw H locs hH hz hS => ?_)
  obtain ⟨P_16, hP_16, hw⟩ := hw
  have hJ_16 : ∀ (hp_4 : zHp) (nx_5 : Nat) (H : Heap) (locs : List Loc) (ls : Array Slot), P_16 hp_4 nx_5 → lv_has ls 5 [(0, va_rf (some h0)), (1, .int x1), (2, .int x2)] → zHd g hp_4 H → H.size = nx_5 → va_S (zAd g) s.heap H locs → W p l e (zrm (d + 1) 0 0) s m ([.ref h0, .int x1, .int x2] : List Value).toArray below meth c H locs 0 0 (MQ below (zQi g Post) ([.ref h0, .int x1, .int x2] : List Value).toArray s 0 0 (zAd g)) (F0 m 16 ls []) := by
    intro hp_4 nx_5 H locs ls hw hl hH hz hS
    have hw := hP_16 hp_4 nx_5 hw
    refine lv_bipush (v := (-2 : Int32)) hx hb dX5_taken_16 (by decide) ?_
    exact zr_iret hk hr hH hz hS hw (Nat.le_of_ble_eq_true rfl) (Nat.le_of_ble_eq_true rfl) dX5_taken_18
  refine lv_if_eq (tgt := 16) hx hb dX5_taken_4 (by decide) (fun hc => ?_) (fun hc => ?_)
  · have hw := hw.1 hc
    exact hJ_16 hp_1 nx_2 _ _ _ hw hl hH hz hS
  · have hw := hw.2 hc
    refine lv_iload_n hx hb dX5_taken_7 rfl (lv_at hl 2 rfl) ?_
    refine lv_iconst (v := (0 : Int32)) hx hb dX5_taken_8 (by decide) ?_
    refine lv_iconst (v := (5 : Int32)) hx hb dX5_taken_9 (by decide) ?_
    refine zr_calli (zr_runS (As := [.int x2, .int (0 : Int32), .int (5 : Int32)]) hk hH hz hS hl.1 hw (va_cwS 3 hts (lw_S q2911 q2912 q162 q2913) rfl rfl rfl (by decide +kernel) (z_room (Nat.le_of_ble_eq_true rfl))) rfl rfl (Nat.le_of_ble_eq_true rfl) dX5_taken_10 ⟨Nat.le_of_ble_eq_true rfl, Nat.le_of_ble_eq_true rfl⟩) hS (fun x_8 hp_6 nx_7 hw H locs hH hz hS => ?_)
    refine lv_if_ne (tgt := 19) hx hb dX5_taken_13 (by decide) (fun hc => ?_) (fun hc => ?_)
    · have hw := hw.2 hc
      refine zr_aload_n (r := some h0) hx hb dX5_taken_19 rfl (lv_at hl 0 rfl) ?_
      obtain ⟨a_9, ci_10, fs_11, r_12, er, he, hc, hv, hw⟩ := zgR_e hw
      refine zw_get hk hH er he hv (fk_X5_9 hc) dX5_taken_20 ?_
      refine lv_iload_n hx hb dX5_taken_23 rfl (lv_at hl 1 rfl) ?_
      obtain ⟨a_13, n_14, f_15, er, he, hi, hw⟩ := zaI_e hw
      have hw := hw _ rfl
      refine zw_iald hk hH er he hi dX5_taken_24 ?_
      generalize f_15 x1.toNatClampNeg = x_16 at hw ⊢
      refine lv_istore_n (i := 3) (lv' := [(3, .int x_16), (0, va_rf (some h0)), (1, .int x1), (2, .int x2)]) hx hb dX5_taken_25 rfl hl (by decide) (by first | rfl | simp [List.filter_cons, z_cat, z_catI, z_catJ, z_catF, z_catD]) (fun ls hl => ?_)
      refine lv_iload_n hx hb dX5_taken_26 rfl (lv_at hl 3 rfl) ?_
      obtain ⟨P_60, hP_60, hw⟩ := hw
      have hJ_60 : ∀ (x_17 : Int32) (x_18 : Int32) (hp_19 : zHp) (nx_20 : Nat) (H : Heap) (locs : List Loc) (ls : Array Slot), P_60 x_17 x_18 hp_19 nx_20 → lv_has ls 5 [(0, va_rf (some h0)), (1, .int x1), (2, .int x2), (3, .int x_17)] → zHd g hp_19 H → H.size = nx_20 → va_S (zAd g) s.heap H locs → W p l e (zrm (d + 1) 0 0) s m ([.ref h0, .int x1, .int x2] : List Value).toArray below meth c H locs 0 0 (MQ below (zQi g Post) ([.ref h0, .int x1, .int x2] : List Value).toArray s 0 0 (zAd g)) (F0 m 60 ls [.int x_18]) := by
        intro x_17 x_18 hp_19 nx_20 H locs ls hw hl hH hz hS
        have hw := hP_60 x_17 x_18 hp_19 nx_20 hw
        refine lv_istore (lv' := [(4, .int x_18), (0, va_rf (some h0)), (1, .int x1), (2, .int x2), (3, .int x_17)]) hx hb dX5_taken_60 hl (by decide) (by first | rfl | simp [List.filter_cons, z_cat, z_catI, z_catJ, z_catF, z_catD]) (fun ls hl => ?_)
        refine lv_iload hx hb dX5_taken_62 (lv_at hl 0 rfl) ?_
        obtain ⟨P_73, hP_73, hw⟩ := hw
        have hJ_73 : ∀ (x_21 : Int32) (x_22 : Int32) (x_23 : Int32) (hp_24 : zHp) (nx_25 : Nat) (H : Heap) (locs : List Loc) (ls : Array Slot), P_73 x_21 x_22 x_23 hp_24 nx_25 → lv_has ls 5 [(0, va_rf (some h0)), (1, .int x1), (2, .int x2), (3, .int x_21), (4, .int x_22)] → zHd g hp_24 H → H.size = nx_25 → va_S (zAd g) s.heap H locs → W p l e (zrm (d + 1) 0 0) s m ([.ref h0, .int x1, .int x2] : List Value).toArray below meth c H locs 0 0 (MQ below (zQi g Post) ([.ref h0, .int x1, .int x2] : List Value).toArray s 0 0 (zAd g)) (F0 m 73 ls [.int x_23]) := by
          intro x_21 x_22 x_23 hp_24 nx_25 H locs ls hw hl hH hz hS
          have hw := hP_73 x_21 x_22 x_23 hp_24 nx_25 hw
          exact zr_iret hk hr hH hz hS hw (Nat.le_of_ble_eq_true rfl) (Nat.le_of_ble_eq_true rfl) dX5_taken_73
        refine lv_if_eq (tgt := 71) hx hb dX5_taken_64 (by decide) (fun hc => ?_) (fun hc => ?_)
        · have hw := hw.1 hc
          refine lv_bipush (v := (-13 : Int32)) hx hb dX5_taken_71 (by decide) ?_
          exact hJ_73 x_17 x_18 (-13 : Int32) hp_19 nx_20 _ _ _ hw (lv_sub hl [1, 2, 3, 4, 0] rfl) hH hz hS
        · have hw := hw.2 hc
          refine lv_iload_n hx hb dX5_taken_67 rfl (lv_at hl 4 rfl) ?_
          refine lv_goto (tgt := 73) hx hb dX5_taken_68 (by decide) ?_
          exact hJ_73 x_17 x_18 x_17 hp_19 nx_20 _ _ _ hw (lv_sub hl [1, 2, 3, 4, 0] rfl) hH hz hS
      obtain ⟨P_55, hP_55, hw⟩ := hw
      have hJ_55 : ∀ (x_26 : Int32) (hp_27 : zHp) (nx_28 : Nat) (H : Heap) (locs : List Loc) (ls : Array Slot), P_55 x_26 hp_27 nx_28 → lv_has ls 5 [(0, va_rf (some h0)), (1, .int x1), (2, .int x2), (3, .int x_26)] → zHd g hp_27 H → H.size = nx_28 → va_S (zAd g) s.heap H locs → W p l e (zrm (d + 1) 0 0) s m ([.ref h0, .int x1, .int x2] : List Value).toArray below meth c H locs 0 0 (MQ below (zQi g Post) ([.ref h0, .int x1, .int x2] : List Value).toArray s 0 0 (zAd g)) (F0 m 55 ls []) := by
        intro x_26 hp_27 nx_28 H locs ls hw hl hH hz hS
        have hw := hP_55 x_26 hp_27 nx_28 hw
        refine lv_iconst (v := (1 : Int32)) hx hb dX5_taken_55 (by decide) ?_
        refine lv_goto (tgt := 60) hx hb dX5_taken_56 (by decide) ?_
        exact hJ_60 x_26 (1 : Int32) hp_27 nx_28 _ _ _ hw hl hH hz hS
      refine lv_if_eq (tgt := 55) hx hb dX5_taken_27 (by decide) (fun hc => ?_) (fun hc => ?_)
      · have hw := hw.1 hc
        exact hJ_55 x_16 hp_6 nx_7 _ _ _ hw (lv_sub hl [1, 2, 3, 0] rfl) hH hz hS
      · have hw := hw.2 hc
        refine lv_iload_n hx hb dX5_taken_30 rfl (lv_at hl 3 rfl) ?_
        refine lv_iload_n hx hb dX5_taken_31 rfl (lv_at hl 0 rfl) ?_
        refine lv_icmp_eq (tgt := 55) hx hb dX5_taken_32 (by decide) (fun hc => ?_) (fun hc => ?_)
        · have hw := hw.1 hc
          exact hJ_55 x_16 hp_6 nx_7 _ _ _ hw (lv_sub hl [1, 2, 3, 0] rfl) hH hz hS
        · have hw := hw.2 hc
          refine lv_iload_n hx hb dX5_taken_35 rfl (lv_at hl 3 rfl) ?_
          refine lv_iconst (v := (1 : Int32)) hx hb dX5_taken_36 (by decide) ?_
          obtain ⟨P_45, hP_45, hw⟩ := hw
          have hJ_45 : ∀ (x_29 : Int32) (hp_30 : zHp) (nx_31 : Nat) (H : Heap) (locs : List Loc) (ls : Array Slot), P_45 x_29 hp_30 nx_31 → lv_has ls 5 [(0, va_rf (some h0)), (1, .int x1), (2, .int x2), (3, .int x_29)] → zHd g hp_30 H → H.size = nx_31 → va_S (zAd g) s.heap H locs → W p l e (zrm (d + 1) 0 0) s m ([.ref h0, .int x1, .int x2] : List Value).toArray below meth c H locs 0 0 (MQ below (zQi g Post) ([.ref h0, .int x1, .int x2] : List Value).toArray s 0 0 (zAd g)) (F0 m 45 ls []) := by
            intro x_29 hp_30 nx_31 H locs ls hw hl hH hz hS
            have hw := hP_45 x_29 hp_30 nx_31 hw
            refine lv_iload_n hx hb dX5_taken_45 rfl (lv_at hl 2 rfl) ?_
            refine lv_iconst (v := (2 : Int32)) hx hb dX5_taken_46 (by decide) ?_
            obtain ⟨P_59, hP_59, hw⟩ := hw
            have hJ_59 : ∀ (x_32 : Int32) (hp_33 : zHp) (nx_34 : Nat) (H : Heap) (locs : List Loc) (ls : Array Slot), P_59 x_32 hp_33 nx_34 → lv_has ls 5 [(0, va_rf (some h0)), (1, .int x1), (2, .int x2), (3, .int x_32)] → zHd g hp_33 H → H.size = nx_34 → va_S (zAd g) s.heap H locs → W p l e (zrm (d + 1) 0 0) s m ([.ref h0, .int x1, .int x2] : List Value).toArray below meth c H locs 0 0 (MQ below (zQi g Post) ([.ref h0, .int x1, .int x2] : List Value).toArray s 0 0 (zAd g)) (F0 m 59 ls []) := by
              intro x_32 hp_33 nx_34 H locs ls hw hl hH hz hS
              have hw := hP_59 x_32 hp_33 nx_34 hw
              refine lv_iconst (v := (0 : Int32)) hx hb dX5_taken_59 (by decide) ?_
              exact hJ_60 x_32 (0 : Int32) hp_33 nx_34 _ _ _ hw hl hH hz hS
            refine lv_icmp_ne (tgt := 59) hx hb dX5_taken_47 (by decide) (fun hc => ?_) (fun hc => ?_)
            · have hw := hw.2 hc
              exact hJ_59 x_29 hp_30 nx_31 _ _ _ hw hl hH hz hS
            · have hw := hw.1 hc
              refine lv_iload_n hx hb dX5_taken_50 rfl (lv_at hl 3 rfl) ?_
              refine lv_iconst (v := (4 : Int32)) hx hb dX5_taken_51 (by decide) ?_
              refine lv_icmp_ne (tgt := 59) hx hb dX5_taken_52 (by decide) (fun hc => ?_) (fun hc => ?_)
              · have hw := hw.2 hc
                exact hJ_59 x_29 hp_30 nx_31 _ _ _ hw hl hH hz hS
              · have hw := hw.1 hc
                exact hJ_55 x_29 hp_30 nx_31 _ _ _ hw hl hH hz hS
          refine lv_icmp_ne (tgt := 45) hx hb dX5_taken_37 (by decide) (fun hc => ?_) (fun hc => ?_)
          · have hw := hw.2 hc
            exact hJ_45 x_16 hp_6 nx_7 _ _ _ hw (lv_sub hl [1, 2, 3, 0] rfl) hH hz hS
          · have hw := hw.1 hc
            refine lv_iload_n hx hb dX5_taken_40 rfl (lv_at hl 0 rfl) ?_
            refine lv_iconst (v := (3 : Int32)) hx hb dX5_taken_41 (by decide) ?_
            refine lv_icmp_eq (tgt := 55) hx hb dX5_taken_42 (by decide) (fun hc => ?_) (fun hc => ?_)
            · have hw := hw.1 hc
              exact hJ_55 x_16 hp_6 nx_7 _ _ _ hw (lv_sub hl [1, 2, 3, 0] rfl) hH hz hS
            · have hw := hw.2 hc
              exact hJ_45 x_16 hp_6 nx_7 _ _ _ hw (lv_sub hl [1, 2, 3, 0] rfl) hH hz hS
    · have hw := hw.1 hc
      exact hJ_16 hp_6 nx_7 _ _ _ hw hl hH hz hS
theorem fk_X5_348 {ci : Nat} (h : ci ∈ [5]) : zFk "WhatIfSheetModel" 348 ci 34 := by
  simp only [List.mem_cons, List.not_mem_nil, or_false] at h
  rcases h with rfl
  · exact ⟨RX5, TX5, 76, rfl, by decide, q2708⟩
theorem fp_X5_348 {ci : Nat} (h : ci ∈ [5]) : zFp "WhatIfSheetModel" 348 ci 34 .int := by
  simp only [List.mem_cons, List.not_mem_nil, or_false] at h
  rcases h with rfl
  · exact ⟨RX5, TX5, 76, rfl, by decide, q2708, rfl, by decide +kernel⟩
theorem fk_X5_102 {ci : Nat} (h : ci ∈ [5]) : zFk "WhatIfSheetModel" 102 ci 33 := by
  simp only [List.mem_cons, List.not_mem_nil, or_false] at h
  rcases h with rfl
  · exact ⟨RX5, TX5, 76, rfl, by decide, q2707⟩
def wp_X5_feed (l : Launch) (g : zG) (d : Nat) (h0 : Nat) (x1 : Int32) (x2 : Int32) (x3 : Int32) (x4 : Int32) (x5 : Int32) (x6 : Int32) (hp : zHp) (nx : Nat) (Post : Int32 → zHp → Nat → Prop) : Prop :=
  (zMt l g yX5_in cX5_in 3 (some .boolean) d 0 0 [.int x1, .int (1 : Int32), .int (5 : Int32)] hp nx (zQi g fun x_3 hp_1 nx_2 =>
  (∃ P_47 : zHp → Nat → Prop, (∀ (hp_4 : zHp) (nx_5 : Nat), P_47 hp_4 nx_5 →
  (Post (-2 : Int32) hp_4 nx_5)) ∧
  ((x_3 = 0 →
  P_47 hp_1 nx_2) ∧
  (¬ x_3 = 0 →
  (zMt l g yX5_isByte cX5_isByte 1 (some .boolean) d 0 0 [.int x2] hp_1 nx_2 (zQi g fun x_8 hp_6 nx_7 =>
  ((x_8 = 0 →
  P_47 hp_6 nx_7) ∧
  (¬ x_8 = 0 →
  (zMt l g yX5_isByte cX5_isByte 1 (some .boolean) d 0 0 [.int x3] hp_6 nx_7 (zQi g fun x_11 hp_9 nx_10 =>
  ((x_11 = 0 →
  P_47 hp_9 nx_10) ∧
  (¬ x_11 = 0 →
  (zMt l g yX5_isByte cX5_isByte 1 (some .boolean) d 0 0 [.int x4] hp_9 nx_10 (zQi g fun x_14 hp_12 nx_13 =>
  ((x_14 = 0 →
  P_47 hp_12 nx_13) ∧
  (¬ x_14 = 0 →
  (zMt l g yX5_isByte cX5_isByte 1 (some .boolean) d 0 0 [.int x5] hp_12 nx_13 (zQi g fun x_17 hp_15 nx_16 =>
  ((x_17 = 0 →
  P_47 hp_15 nx_16) ∧
  (¬ x_17 = 0 →
  (zMt l g yX5_isByte cX5_isByte 1 (some .boolean) d 0 0 [.int x6] hp_15 nx_16 (zQi g fun x_20 hp_18 nx_19 =>
  ((x_20 = 0 →
  P_47 hp_18 nx_19) ∧
  (¬ x_20 = 0 →
  (zgI hp_18 (some h0) [5] 34 fun x_24 =>
  (((x_24 + x1) ≤ (96 : Int32) →
  (∃ I_67 : Nat → Int32 → zHp → Nat → Prop, (∃ n_61, I_67 n_61 (0 : Int32) hp_18 nx_19) ∧ ∀ (n_28 : Nat) (x_25 : Int32) (hp_26 : zHp) (nx_27 : Nat), I_67 n_28 x_25 hp_26 nx_27 →
  ((x1 ≤ x_25 →
  (zgI hp_26 (some h0) [5] 34 fun x_32 =>
  (zpt g hp_26 (some h0) [5] 34 (.int (x_32 + x1)) fun hp_36 =>
  (zgI hp_36 (some h0) [5] 34 fun x_40 =>
  (Post x_40 hp_36 nx_27))))) ∧
  (¬ x1 ≤ x_25 →
  (zgR hp_26 (some h0) [5] 33 fun r_44 =>
  (zgI hp_26 (some h0) [5] 34 fun x_48 =>
  (∃ P_127 : Int32 → (Option Nat) → Int32 → Int32 → zHp → Nat → Prop, (∀ (x_49 : Int32) (r_50 : Option Nat) (x_51 : Int32) (x_52 : Int32) (hp_53 : zHp) (nx_54 : Nat), P_127 x_49 r_50 x_51 x_52 hp_53 nx_54 →
  (zaI (g.2.1 0) hp_53 r_50 fun a_55 n_56 f_57 => vp_in x_51 n_56 ∧ zB g ≤ a_55 ∧ ∀ hp_58 : zHp, hp_58 = va_up hp_53 a_55 (some (.inl (g.2.1 0, n_56, .inl (va_up f_57 x_51.toNatClampNeg x_52)))) →
  (∀ x_59 : Int32, x_59 = x_49 + (1 : Int32) →
  (∃ k_60, k_60 < n_28 ∧ I_67 k_60 x_59 hp_58 nx_54)))) ∧
  ((x_25 = 0 →
  P_127 x_25 r_44 (x_48 + x_25) x2 hp_26 nx_27) ∧
  (¬ x_25 = 0 →
  ((x_25 = (1 : Int32) →
  P_127 x_25 r_44 (x_48 + x_25) x3 hp_26 nx_27) ∧
  (¬ x_25 = (1 : Int32) →
  ((x_25 = (2 : Int32) →
  P_127 x_25 r_44 (x_48 + x_25) x4 hp_26 nx_27) ∧
  (¬ x_25 = (2 : Int32) →
  ((x_25 = (3 : Int32) →
  P_127 x_25 r_44 (x_48 + x_25) x5 hp_26 nx_27) ∧
  (¬ x_25 = (3 : Int32) →
  P_127 x_25 r_44 (x_48 + x_25) x6 hp_26 nx_27))))))))))))))) ∧
  (¬ (x_24 + x1) ≤ (96 : Int32) →
  (Post (-4 : Int32) hp_18 nx_19)))))))))))))))))))))))))))))
set_option maxHeartbeats 40000000 in
theorem met_X5_feed {l : Launch} {g : zG} {d : Nat} {h0 : Nat} {x1 : Int32} {x2 : Int32} {x3 : Int32} {x4 : Int32} {x5 : Int32} {x6 : Int32} {hp : zHp} {nx : Nat} {Post : Int32 → zHp → Nat → Prop} (hw : wp_X5_feed l g d h0 x1 x2 x3 x4 x5 x6 hp nx Post) : zMt l g yX5_feed cX5_feed 8 (some .int) (d + 1) 0 0 [.ref h0, .int x1, .int x2, .int x3, .int x4, .int x5, .int x6] hp nx (zQi g Post) := by
  refine z_start (by decide) (Nat.le_of_ble_eq_true rfl) ?_
  intro p e s m below meth c hk hr hin hH hz ls hl
  have hx := hk.1.1
  have hb := hk.1.2.1
  have hown := hk.1.2.2.2.1
  have hts := hk.1.2.2.2.2
  have hS : va_S (zAd g) s.heap s.heap [] := va_S.rf
  have hl : lv_has ls 8 [(0, va_rf (some h0)), (1, .int x1), (2, .int x2), (3, .int x3), (4, .int x4), (5, .int x5), (6, .int x6)] := hl
  unfold wp_X5_feed at hw
  refine lv_iload_n hx hb dX5_feed_0 rfl (lv_at hl 1 rfl) ?_
  refine lv_iconst (v := (1 : Int32)) hx hb dX5_feed_1 (by decide) ?_
  refine lv_iconst (v := (5 : Int32)) hx hb dX5_feed_2 (by decide) ?_
  refine zr_calli (zr_runS (As := [.int x1, .int (1 : Int32), .int (5 : Int32)]) hk hH hz hS hl.1 hw (va_cwS 3 hts (lw_S q2911 q2912 q162 q2913) rfl rfl rfl (by decide +kernel) (z_room (Nat.le_of_ble_eq_true rfl))) rfl rfl (Nat.le_of_ble_eq_true rfl) dX5_feed_3 ⟨Nat.le_of_ble_eq_true rfl, Nat.le_of_ble_eq_true rfl⟩) hS (fun x_3 hp_1 nx_2 hw H locs hH hz hS => ?_)
  obtain ⟨P_47, hP_47, hw⟩ := hw
  have hJ_47 : ∀ (hp_4 : zHp) (nx_5 : Nat) (H : Heap) (locs : List Loc) (ls : Array Slot), P_47 hp_4 nx_5 → lv_has ls 8 [(0, va_rf (some h0)), (1, .int x1), (2, .int x2), (3, .int x3), (4, .int x4), (5, .int x5), (6, .int x6)] → zHd g hp_4 H → H.size = nx_5 → va_S (zAd g) s.heap H locs → W p l e (zrm (d + 1) 0 0) s m ([.ref h0, .int x1, .int x2, .int x3, .int x4, .int x5, .int x6] : List Value).toArray below meth c H locs 0 0 (MQ below (zQi g Post) ([.ref h0, .int x1, .int x2, .int x3, .int x4, .int x5, .int x6] : List Value).toArray s 0 0 (zAd g)) (F0 m 47 ls []) := by
    intro hp_4 nx_5 H locs ls hw hl hH hz hS
    have hw := hP_47 hp_4 nx_5 hw
    refine lv_bipush (v := (-2 : Int32)) hx hb dX5_feed_47 (by decide) ?_
    exact zr_iret hk hr hH hz hS hw (Nat.le_of_ble_eq_true rfl) (Nat.le_of_ble_eq_true rfl) dX5_feed_49
  refine lv_if_eq (tgt := 47) hx hb dX5_feed_6 (by decide) (fun hc => ?_) (fun hc => ?_)
  · have hw := hw.1 hc
    exact hJ_47 hp_1 nx_2 _ _ _ hw hl hH hz hS
  · have hw := hw.2 hc
    refine lv_iload_n hx hb dX5_feed_9 rfl (lv_at hl 2 rfl) ?_
    refine zr_calli (zr_runS (As := [.int x2]) hk hH hz hS hl.1 hw (va_cwS 1 hts (lw_S q3071 q3072 q162 q3073) rfl rfl rfl (by decide +kernel) (z_room (Nat.le_of_ble_eq_true rfl))) rfl rfl (Nat.le_of_ble_eq_true rfl) dX5_feed_10 ⟨Nat.le_of_ble_eq_true rfl, Nat.le_of_ble_eq_true rfl⟩) hS (fun x_8 hp_6 nx_7 hw H locs hH hz hS => ?_)
    refine lv_if_eq (tgt := 47) hx hb dX5_feed_13 (by decide) (fun hc => ?_) (fun hc => ?_)
    · have hw := hw.1 hc
      exact hJ_47 hp_6 nx_7 _ _ _ hw hl hH hz hS
    · have hw := hw.2 hc
      refine lv_iload_n hx hb dX5_feed_16 rfl (lv_at hl 3 rfl) ?_
      refine zr_calli (zr_runS (As := [.int x3]) hk hH hz hS hl.1 hw (va_cwS 1 hts (lw_S q3071 q3072 q162 q3073) rfl rfl rfl (by decide +kernel) (z_room (Nat.le_of_ble_eq_true rfl))) rfl rfl (Nat.le_of_ble_eq_true rfl) dX5_feed_17 ⟨Nat.le_of_ble_eq_true rfl, Nat.le_of_ble_eq_true rfl⟩) hS (fun x_11 hp_9 nx_10 hw H locs hH hz hS => ?_)
      refine lv_if_eq (tgt := 47) hx hb dX5_feed_20 (by decide) (fun hc => ?_) (fun hc => ?_)
      · have hw := hw.1 hc
        exact hJ_47 hp_9 nx_10 _ _ _ hw hl hH hz hS
      · have hw := hw.2 hc
        refine lv_iload hx hb dX5_feed_23 (lv_at hl 4 rfl) ?_
        refine zr_calli (zr_runS (As := [.int x4]) hk hH hz hS hl.1 hw (va_cwS 1 hts (lw_S q3071 q3072 q162 q3073) rfl rfl rfl (by decide +kernel) (z_room (Nat.le_of_ble_eq_true rfl))) rfl rfl (Nat.le_of_ble_eq_true rfl) dX5_feed_25 ⟨Nat.le_of_ble_eq_true rfl, Nat.le_of_ble_eq_true rfl⟩) hS (fun x_14 hp_12 nx_13 hw H locs hH hz hS => ?_)
        refine lv_if_eq (tgt := 47) hx hb dX5_feed_28 (by decide) (fun hc => ?_) (fun hc => ?_)
        · have hw := hw.1 hc
          exact hJ_47 hp_12 nx_13 _ _ _ hw hl hH hz hS
        · have hw := hw.2 hc
          refine lv_iload hx hb dX5_feed_31 (lv_at hl 5 rfl) ?_
          refine zr_calli (zr_runS (As := [.int x5]) hk hH hz hS hl.1 hw (va_cwS 1 hts (lw_S q3071 q3072 q162 q3073) rfl rfl rfl (by decide +kernel) (z_room (Nat.le_of_ble_eq_true rfl))) rfl rfl (Nat.le_of_ble_eq_true rfl) dX5_feed_33 ⟨Nat.le_of_ble_eq_true rfl, Nat.le_of_ble_eq_true rfl⟩) hS (fun x_17 hp_15 nx_16 hw H locs hH hz hS => ?_)
          refine lv_if_eq (tgt := 47) hx hb dX5_feed_36 (by decide) (fun hc => ?_) (fun hc => ?_)
          · have hw := hw.1 hc
            exact hJ_47 hp_15 nx_16 _ _ _ hw hl hH hz hS
          · have hw := hw.2 hc
            refine lv_iload hx hb dX5_feed_39 (lv_at hl 6 rfl) ?_
            refine zr_calli (zr_runS (As := [.int x6]) hk hH hz hS hl.1 hw (va_cwS 1 hts (lw_S q3071 q3072 q162 q3073) rfl rfl rfl (by decide +kernel) (z_room (Nat.le_of_ble_eq_true rfl))) rfl rfl (Nat.le_of_ble_eq_true rfl) dX5_feed_41 ⟨Nat.le_of_ble_eq_true rfl, Nat.le_of_ble_eq_true rfl⟩) hS (fun x_20 hp_18 nx_19 hw H locs hH hz hS => ?_)
            refine lv_if_ne (tgt := 50) hx hb dX5_feed_44 (by decide) (fun hc => ?_) (fun hc => ?_)
            · have hw := hw.2 hc
              refine zr_aload_n (r := some h0) hx hb dX5_feed_50 rfl (lv_at hl 0 rfl) ?_
              obtain ⟨a_21, ci_22, fs_23, x_24, er, he, hc, hv, hw⟩ := zgI_e hw
              refine zw_get hk hH er he hv (fk_X5_348 hc) dX5_feed_51 ?_
              refine lv_iload_n hx hb dX5_feed_54 rfl (lv_at hl 1 rfl) ?_
              refine lv_iadd hx hb dX5_feed_55 ?_
              refine lv_bipush (v := (96 : Int32)) hx hb dX5_feed_56 (by decide) ?_
              refine lv_icmp_le (tgt := 64) hx hb dX5_feed_58 (by decide) (fun hc => ?_) (fun hc => ?_)
              · have hw := hw.1 hc
                refine lv_iconst (v := (0 : Int32)) hx hb dX5_feed_64 (by decide) ?_
                refine lv_istore (lv' := [(7, .int (0 : Int32)), (0, va_rf (some h0)), (1, .int x1), (2, .int x2), (3, .int x3), (4, .int x4), (5, .int x5), (6, .int x6)]) hx hb dX5_feed_65 hl (by decide) (by first | rfl | simp [List.filter_cons, z_cat, z_catI, z_catJ, z_catF, z_catD]) (fun ls hl => ?_)
                obtain ⟨I_67, ⟨n_61, hI⟩, hB_67⟩ := hw
                have hL_67 : ∀ (n_28 : Nat) (x_25 : Int32) (hp_26 : zHp) (nx_27 : Nat) (H : Heap) (locs : List Loc) (ls : Array Slot), I_67 n_28 x_25 hp_26 nx_27 → lv_has ls 8 [(0, va_rf (some h0)), (1, .int x1), (2, .int x2), (3, .int x3), (4, .int x4), (5, .int x5), (6, .int x6), (7, .int x_25)] → zHd g hp_26 H → H.size = nx_27 → va_S (zAd g) s.heap H locs → W p l e (zrm (d + 1) 0 0) s m ([.ref h0, .int x1, .int x2, .int x3, .int x4, .int x5, .int x6] : List Value).toArray below meth c H locs 0 0 (MQ below (zQi g Post) ([.ref h0, .int x1, .int x2, .int x3, .int x4, .int x5, .int x6] : List Value).toArray s 0 0 (zAd g)) (F0 m 67 ls []) := by
                  intro n_28
                  induction n_28 using Nat.strongRecOn with
                  | _ n_28 ih_67 =>
                    intro x_25 hp_26 nx_27 H locs ls hw hl hH hz hS
                    have hw := hB_67 n_28 x_25 hp_26 nx_27 hw
                    refine lv_iload hx hb dX5_feed_67 (lv_at hl 7 rfl) ?_
                    refine lv_iload_n hx hb dX5_feed_69 rfl (lv_at hl 1 rfl) ?_
                    refine lv_icmp_ge (tgt := 134) hx hb dX5_feed_70 (by decide) (fun hc => ?_) (fun hc => ?_)
                    · have hw := hw.1 hc
                      refine zr_aload_n (r := some h0) hx hb dX5_feed_134 rfl (lv_at hl 0 rfl) ?_
                      refine lv_dup hx hb dX5_feed_135 (z_cat _) ?_
                      obtain ⟨a_29, ci_30, fs_31, x_32, er, he, hc, hv, hw⟩ := zgI_e hw
                      refine zw_get hk hH er he hv (fk_X5_348 hc) dX5_feed_136 ?_
                      refine lv_iload_n hx hb dX5_feed_139 rfl (lv_at hl 1 rfl) ?_
                      refine lv_iadd hx hb dX5_feed_140 ?_
                      obtain ⟨a_33, ci_34, fs_35, hp_36, er, he, hc, hA, hkl, eh, hw⟩ := zpt_e hw
                      refine zw_put hk hH hz hS er he hA hkl eh (fp_X5_348 hc) rfl rfl dX5_feed_141 (fun H locs hH hz hS => ?_)
                      refine zr_aload_n (r := some h0) hx hb dX5_feed_144 rfl (lv_at hl 0 rfl) ?_
                      obtain ⟨a_37, ci_38, fs_39, x_40, er, he, hc, hv, hw⟩ := zgI_e hw
                      refine zw_get hk hH er he hv (fk_X5_348 hc) dX5_feed_145 ?_
                      exact zr_iret hk hr hH hz hS hw (Nat.le_of_ble_eq_true rfl) (Nat.le_of_ble_eq_true rfl) dX5_feed_148
                    · have hw := hw.2 hc
                      refine zr_aload_n (r := some h0) hx hb dX5_feed_73 rfl (lv_at hl 0 rfl) ?_
                      obtain ⟨a_41, ci_42, fs_43, r_44, er, he, hc, hv, hw⟩ := zgR_e hw
                      refine zw_get hk hH er he hv (fk_X5_102 hc) dX5_feed_74 ?_
                      refine zr_aload_n (r := some h0) hx hb dX5_feed_77 rfl (lv_at hl 0 rfl) ?_
                      obtain ⟨a_45, ci_46, fs_47, x_48, er, he, hc, hv, hw⟩ := zgI_e hw
                      refine zw_get hk hH er he hv (fk_X5_348 hc) dX5_feed_78 ?_
                      refine lv_iload hx hb dX5_feed_81 (lv_at hl 7 rfl) ?_
                      refine lv_iadd hx hb dX5_feed_83 ?_
                      refine lv_iload hx hb dX5_feed_84 (lv_at hl 7 rfl) ?_
                      obtain ⟨P_127, hP_127, hw⟩ := hw
                      have hJ_127 : ∀ (x_49 : Int32) (r_50 : Option Nat) (x_51 : Int32) (x_52 : Int32) (hp_53 : zHp) (nx_54 : Nat) (H : Heap) (locs : List Loc) (ls : Array Slot), P_127 x_49 r_50 x_51 x_52 hp_53 nx_54 → lv_has ls 8 [(0, va_rf (some h0)), (1, .int x1), (2, .int x2), (3, .int x3), (4, .int x4), (5, .int x5), (6, .int x6), (7, .int x_49)] → zHd g hp_53 H → H.size = nx_54 → va_S (zAd g) s.heap H locs → W p l e (zrm (d + 1) 0 0) s m ([.ref h0, .int x1, .int x2, .int x3, .int x4, .int x5, .int x6] : List Value).toArray below meth c H locs 0 0 (MQ below (zQi g Post) ([.ref h0, .int x1, .int x2, .int x3, .int x4, .int x5, .int x6] : List Value).toArray s 0 0 (zAd g)) (F0 m 127 ls [.int x_52, .int x_51, va_rf r_50]) := by
                        intro x_49 r_50 x_51 x_52 hp_53 nx_54 H locs ls hw hl hH hz hS
                        have hw := hP_127 x_49 r_50 x_51 x_52 hp_53 nx_54 hw
                        obtain ⟨a_55, n_56, f_57, er, he, hi, hA, hw⟩ := zaI_e hw
                        obtain ⟨hp_58, eh⟩ : ∃ y : zHp, y = va_up hp_53 a_55 (some (.inl (g.2.1 0, n_56, .inl (va_up f_57 x_51.toNatClampNeg x_52)))) := ⟨_, rfl⟩
                        have hw := hw hp_58 eh
                        refine zw_iast hk hH hz hS er he hi hA eh dX5_feed_127 (fun H locs hH hz hS => ?_)
                        obtain ⟨x_59, ex_59⟩ : ∃ y : Int32, y = x_49 + (1 : Int32) := ⟨_, rfl⟩
                        have hw := hw x_59 ex_59
                        refine lv_iinc (v := x_59) (lv' := [(7, .int x_59), (0, va_rf (some h0)), (1, .int x1), (2, .int x2), (3, .int x3), (4, .int x4), (5, .int x5), (6, .int x6)]) hx hb dX5_feed_128 hl (k := 7) rfl (by rw [ex_59]; rfl) (by decide) (by first | rfl | simp [List.filter_cons, z_cat, z_catI, z_catJ, z_catF, z_catD]) (fun ls hl => ?_)
                        refine lv_goto (tgt := 67) hx hb dX5_feed_131 (by decide) ?_
                        obtain ⟨k_60, hlt, hw⟩ := hw
                        exact ih_67 k_60 hlt x_59 hp_58 nx_54 _ _ _ hw (lv_sub hl [1, 2, 3, 4, 5, 6, 7, 0] rfl) hH hz hS
                      refine lv_if_ne (tgt := 93) hx hb dX5_feed_86 (by decide) (fun hc => ?_) (fun hc => ?_)
                      · have hw := hw.2 hc
                        refine lv_iload hx hb dX5_feed_93 (lv_at hl 7 rfl) ?_
                        refine lv_iconst (v := (1 : Int32)) hx hb dX5_feed_95 (by decide) ?_
                        refine lv_icmp_ne (tgt := 103) hx hb dX5_feed_96 (by decide) (fun hc => ?_) (fun hc => ?_)
                        · have hw := hw.2 hc
                          refine lv_iload hx hb dX5_feed_103 (lv_at hl 7 rfl) ?_
                          refine lv_iconst (v := (2 : Int32)) hx hb dX5_feed_105 (by decide) ?_
                          refine lv_icmp_ne (tgt := 114) hx hb dX5_feed_106 (by decide) (fun hc => ?_) (fun hc => ?_)
                          · have hw := hw.2 hc
                            refine lv_iload hx hb dX5_feed_114 (lv_at hl 7 rfl) ?_
                            refine lv_iconst (v := (3 : Int32)) hx hb dX5_feed_116 (by decide) ?_
                            refine lv_icmp_ne (tgt := 125) hx hb dX5_feed_117 (by decide) (fun hc => ?_) (fun hc => ?_)
                            · have hw := hw.2 hc
                              refine lv_iload hx hb dX5_feed_125 (lv_at hl 6 rfl) ?_
                              exact hJ_127 x_25 r_44 (x_48 + x_25) x6 hp_26 nx_27 _ _ _ hw hl hH hz hS
                            · have hw := hw.1 hc
                              refine lv_iload hx hb dX5_feed_120 (lv_at hl 5 rfl) ?_
                              refine lv_goto (tgt := 127) hx hb dX5_feed_122 (by decide) ?_
                              exact hJ_127 x_25 r_44 (x_48 + x_25) x5 hp_26 nx_27 _ _ _ hw hl hH hz hS
                          · have hw := hw.1 hc
                            refine lv_iload hx hb dX5_feed_109 (lv_at hl 4 rfl) ?_
                            refine lv_goto (tgt := 127) hx hb dX5_feed_111 (by decide) ?_
                            exact hJ_127 x_25 r_44 (x_48 + x_25) x4 hp_26 nx_27 _ _ _ hw hl hH hz hS
                        · have hw := hw.1 hc
                          refine lv_iload_n hx hb dX5_feed_99 rfl (lv_at hl 3 rfl) ?_
                          refine lv_goto (tgt := 127) hx hb dX5_feed_100 (by decide) ?_
                          exact hJ_127 x_25 r_44 (x_48 + x_25) x3 hp_26 nx_27 _ _ _ hw hl hH hz hS
                      · have hw := hw.1 hc
                        refine lv_iload_n hx hb dX5_feed_89 rfl (lv_at hl 2 rfl) ?_
                        refine lv_goto (tgt := 127) hx hb dX5_feed_90 (by decide) ?_
                        exact hJ_127 x_25 r_44 (x_48 + x_25) x2 hp_26 nx_27 _ _ _ hw hl hH hz hS
                exact hL_67 n_61 (0 : Int32) hp_18 nx_19 _ _ _ hI (lv_sub hl [1, 2, 3, 4, 5, 6, 7, 0] rfl) hH hz hS
              · have hw := hw.2 hc
                refine lv_bipush (v := (-4 : Int32)) hx hb dX5_feed_61 (by decide) ?_
                exact zr_iret hk hr hH hz hS hw (Nat.le_of_ble_eq_true rfl) (Nat.le_of_ble_eq_true rfl) dX5_feed_63
            · have hw := hw.1 hc
              exact hJ_47 hp_18 nx_19 _ _ _ hw hl hH hz hS
def wp_X5_isByte (l : Launch) (g : zG) (d : Nat) (x0 : Int32) (hp : zHp) (nx : Nat) (Post : Int32 → zHp → Nat → Prop) : Prop :=
  (zMt l g yX5_in cX5_in 3 (some .boolean) d 0 0 [.int x0, .int (0 : Int32), .int (255 : Int32)] hp nx (zQi g fun x_3 hp_1 nx_2 =>
  (((x_3 = 0 ∨ x_3 = 1) ∧ Post x_3 hp_1 nx_2))))
set_option maxHeartbeats 40000000 in
theorem met_X5_isByte {l : Launch} {g : zG} {d : Nat} {x0 : Int32} {hp : zHp} {nx : Nat} {Post : Int32 → zHp → Nat → Prop} (hw : wp_X5_isByte l g d x0 hp nx Post) : zMt l g yX5_isByte cX5_isByte 1 (some .boolean) (d + 1) 0 0 [.int x0] hp nx (zQi g Post) := by
  refine z_start (by decide) (Nat.le_of_ble_eq_true rfl) ?_
  intro p e s m below meth c hk hr hin hH hz ls hl
  have hx := hk.1.1
  have hb := hk.1.2.1
  have hown := hk.1.2.2.2.1
  have hts := hk.1.2.2.2.2
  have hS : va_S (zAd g) s.heap s.heap [] := va_S.rf
  have hl : lv_has ls 1 [(0, .int x0)] := hl
  unfold wp_X5_isByte at hw
  refine lv_iload_n hx hb dX5_isByte_0 rfl (lv_at hl 0 rfl) ?_
  refine lv_iconst (v := (0 : Int32)) hx hb dX5_isByte_1 (by decide) ?_
  refine lv_sipush (v := (255 : Int32)) hx hb dX5_isByte_2 (by decide) ?_
  refine zr_calli (zr_runS (As := [.int x0, .int (0 : Int32), .int (255 : Int32)]) hk hH hz hS hl.1 hw (va_cwS 3 hts (lw_S q2911 q2912 q162 q2913) rfl rfl rfl (by decide +kernel) (z_room (Nat.le_of_ble_eq_true rfl))) rfl rfl (Nat.le_of_ble_eq_true rfl) dX5_isByte_5 ⟨Nat.le_of_ble_eq_true rfl, Nat.le_of_ble_eq_true rfl⟩) hS (fun x_3 hp_1 nx_2 hw H locs hH hz hS => ?_)
  exact zr_zret hk hr hH hz hS hw.1 hw.2 (Nat.le_of_ble_eq_true rfl) (Nat.le_of_ble_eq_true rfl) dX5_isByte_8
theorem fk_X5_111 {ci : Nat} (h : ci ∈ [5]) : zFk "WhatIfSheetModel" 111 ci 47 := by
  simp only [List.mem_cons, List.not_mem_nil, or_false] at h
  rcases h with rfl
  · exact ⟨RX5, TX5, 76, rfl, by decide, q2721⟩
theorem fk_X5_114 {ci : Nat} (h : ci ∈ [5]) : zFk "WhatIfSheetModel" 114 ci 48 := by
  simp only [List.mem_cons, List.not_mem_nil, or_false] at h
  rcases h with rfl
  · exact ⟨RX5, TX5, 76, rfl, by decide, q2722⟩
theorem fk_X5_105 {ci : Nat} (h : ci ∈ [5]) : zFk "WhatIfSheetModel" 105 ci 35 := by
  simp only [List.mem_cons, List.not_mem_nil, or_false] at h
  rcases h with rfl
  · exact ⟨RX5, TX5, 76, rfl, by decide, q2709⟩
theorem fk_X5_108 {ci : Nat} (h : ci ∈ [5]) : zFk "WhatIfSheetModel" 108 ci 36 := by
  simp only [List.mem_cons, List.not_mem_nil, or_false] at h
  rcases h with rfl
  · exact ⟨RX5, TX5, 76, rfl, by decide, q2710⟩
theorem fk_X5_424 {ci : Nat} (h : ci ∈ [5]) : zFk "WhatIfSheetModel" 424 ci 37 := by
  simp only [List.mem_cons, List.not_mem_nil, or_false] at h
  rcases h with rfl
  · exact ⟨RX5, TX5, 76, rfl, by decide, q2711⟩
theorem fk_X5_361 {ci : Nat} (h : ci ∈ [5]) : zFk "WhatIfSheetModel" 361 ci 40 := by
  simp only [List.mem_cons, List.not_mem_nil, or_false] at h
  rcases h with rfl
  · exact ⟨RX5, TX5, 76, rfl, by decide, q2714⟩
def wp_X5_formula (l : Launch) (g : zG) (d : Nat) (h0 : Nat) (x1 : Int32) (hp : zHp) (nx : Nat) (Post : Int32 → zHp → Nat → Prop) : Prop :=
  (zMt l g yX5_isCell cX5_isCell 1 (some .boolean) d 0 0 [.int x1] hp nx (zQi g fun x_3 hp_1 nx_2 =>
  ((x_3 = 0 →
  (Post (-2 : Int32) hp_1 nx_2)) ∧
  (¬ x_3 = 0 →
  (zo hp_1 (some h0) [5] fun a_207 ci_208 fs_209 => zMt l g yX5_isRead cX5_isRead 1 (some .boolean) d 0 0 (.ref a_207 :: []) hp_1 nx_2 (zQi g fun x_6 hp_4 nx_5 =>
  (zpt g hp_4 (some h0) [5] 34 (.int (0 : Int32)) fun hp_10 =>
  ((x_6 = 0 →
  (zgI hp_10 (some h0) [5] 40 fun x_206 =>
  (Post ((-100 : Int32) - x_206) hp_10 nx_5))) ∧
  (¬ x_6 = 0 →
  (zo hp_10 (some h0) [5] fun a_200 ci_201 fs_202 => zMt l g yX5_isVaried cX5_isVaried 3 (some .boolean) d 0 0 (.ref a_200 :: [.int x1]) hp_10 nx_5 (zQi g fun x_13 hp_11 nx_12 =>
  ((x_13 = 0 →
  (zo hp_11 (some h0) [5] fun a_197 ci_198 fs_199 => zMt l g yX5_newNames cX5_newNames 3 (some .int) d 0 0 (.ref a_197 :: []) hp_11 nx_12 (zQi g fun x_16 hp_14 nx_15 =>
  (zo hp_14 (some h0) [5] fun a_194 ci_195 fs_196 => zMt l g yX5_comeTo cX5_comeTo 6 (some .int) d 0 0 (.ref a_194 :: [.int x_16]) hp_14 nx_15 (zQi g fun x_19 hp_17 nx_18 =>
  ((((x_19 >>> (x1 &&& 31)) &&& (1 : Int32)) = (1 : Int32) →
  (Post (-5 : Int32) hp_17 nx_18)) ∧
  (¬ ((x_19 >>> (x1 &&& 31)) &&& (1 : Int32)) = (1 : Int32) →
  (zgR hp_17 (some h0) [5] 3 fun r_23 =>
  (zaI (g.2.1 0) hp_17 r_23 fun a_24 n_25 f_26 => vp_in x1 n_25 ∧ ∀ x_27 : Int32, x_27 = f_26 x1.toNatClampNeg →
  (zgR hp_17 (some h0) [5] 4 fun r_31 =>
  (zaR (g.2.1 14) hp_17 r_31 fun a_32 n_33 f_34 => vp_in x1 n_33 ∧ ∀ r_35 : Option Nat, r_35 = f_34 x1.toNatClampNeg →
  (zgR hp_17 (some h0) [5] 47 fun r_39 =>
  (zaI (g.2.1 0) hp_17 r_35 fun a_40 n_42 f_44 => zaI (g.2.1 0) hp_17 r_39 fun a_41 n_43 f_45 => zB g ≤ a_41 ∧ ¬ (0 : Int32) < 0 ∧ ¬ (0 : Int32) < 0 ∧ ¬ (96 : Int32) < 0 ∧ (0 : Int32).toNatClampNeg + (96 : Int32).toNatClampNeg ≤ n_42 ∧ (0 : Int32).toNatClampNeg + (96 : Int32).toNatClampNeg ≤ n_43 ∧ (∀ i, i < (96 : Int32).toNatClampNeg → fits .int (.int (f_44 ((0 : Int32).toNatClampNeg + i))) = true) ∧ ∀ hp_46 : zHp, hp_46 = va_up hp_17 a_41 (some (.inl (g.2.1 0, n_43, .inl (va_cpy f_44 f_45 (0 : Int32).toNatClampNeg (0 : Int32).toNatClampNeg (96 : Int32).toNatClampNeg)))) →
  (zgR hp_46 (some h0) [5] 5 fun r_50 =>
  (zaR (g.2.1 15) hp_46 r_50 fun a_51 n_52 f_53 => vp_in x1 n_52 ∧ ∀ r_54 : Option Nat, r_54 = f_53 x1.toNatClampNeg →
  (zgR hp_46 (some h0) [5] 48 fun r_58 =>
  (zaD (g.2.1 1) hp_46 r_54 fun a_59 n_61 f_63 => zaD (g.2.1 1) hp_46 r_58 fun a_60 n_62 f_64 => zB g ≤ a_60 ∧ ¬ (0 : Int32) < 0 ∧ ¬ (0 : Int32) < 0 ∧ ¬ (96 : Int32) < 0 ∧ (0 : Int32).toNatClampNeg + (96 : Int32).toNatClampNeg ≤ n_61 ∧ (0 : Int32).toNatClampNeg + (96 : Int32).toNatClampNeg ≤ n_62 ∧ (∀ i, i < (96 : Int32).toNatClampNeg → fits .double (.double (f_63 ((0 : Int32).toNatClampNeg + i))) = true) ∧ ∀ hp_65 : zHp, hp_65 = va_up hp_46 a_60 (some (.inl (g.2.1 1, n_62, .inr (.inr (.inr (.inl (va_cpy f_63 f_64 (0 : Int32).toNatClampNeg (0 : Int32).toNatClampNeg (96 : Int32).toNatClampNeg))))))) →
  (zgR hp_65 (some h0) [5] 35 fun r_69 =>
  (zgR hp_65 (some h0) [5] 4 fun r_73 =>
  (zaR (g.2.1 14) hp_65 r_73 fun a_74 n_75 f_76 => vp_in x1 n_75 ∧ ∀ r_77 : Option Nat, r_77 = f_76 x1.toNatClampNeg →
  (zaI (g.2.1 0) hp_65 r_69 fun a_78 n_80 f_82 => zaI (g.2.1 0) hp_65 r_77 fun a_79 n_81 f_83 => zB g ≤ a_79 ∧ ¬ (0 : Int32) < 0 ∧ ¬ (0 : Int32) < 0 ∧ ¬ (96 : Int32) < 0 ∧ (0 : Int32).toNatClampNeg + (96 : Int32).toNatClampNeg ≤ n_80 ∧ (0 : Int32).toNatClampNeg + (96 : Int32).toNatClampNeg ≤ n_81 ∧ (∀ i, i < (96 : Int32).toNatClampNeg → fits .int (.int (f_82 ((0 : Int32).toNatClampNeg + i))) = true) ∧ ∀ hp_84 : zHp, hp_84 = va_up hp_65 a_79 (some (.inl (g.2.1 0, n_81, .inl (va_cpy f_82 f_83 (0 : Int32).toNatClampNeg (0 : Int32).toNatClampNeg (96 : Int32).toNatClampNeg)))) →
  (zgR hp_84 (some h0) [5] 36 fun r_88 =>
  (zgR hp_84 (some h0) [5] 5 fun r_92 =>
  (zaR (g.2.1 15) hp_84 r_92 fun a_93 n_94 f_95 => vp_in x1 n_94 ∧ ∀ r_96 : Option Nat, r_96 = f_95 x1.toNatClampNeg →
  (zaD (g.2.1 1) hp_84 r_88 fun a_97 n_99 f_101 => zaD (g.2.1 1) hp_84 r_96 fun a_98 n_100 f_102 => zB g ≤ a_98 ∧ ¬ (0 : Int32) < 0 ∧ ¬ (0 : Int32) < 0 ∧ ¬ (96 : Int32) < 0 ∧ (0 : Int32).toNatClampNeg + (96 : Int32).toNatClampNeg ≤ n_99 ∧ (0 : Int32).toNatClampNeg + (96 : Int32).toNatClampNeg ≤ n_100 ∧ (∀ i, i < (96 : Int32).toNatClampNeg → fits .double (.double (f_101 ((0 : Int32).toNatClampNeg + i))) = true) ∧ ∀ hp_103 : zHp, hp_103 = va_up hp_84 a_98 (some (.inl (g.2.1 1, n_100, .inr (.inr (.inr (.inl (va_cpy f_101 f_102 (0 : Int32).toNatClampNeg (0 : Int32).toNatClampNeg (96 : Int32).toNatClampNeg))))))) →
  (zgR hp_103 (some h0) [5] 3 fun r_107 =>
  (zgI hp_103 (some h0) [5] 37 fun x_111 =>
  (zaI (g.2.1 0) hp_103 r_107 fun a_112 n_113 f_114 => vp_in x1 n_113 ∧ zB g ≤ a_112 ∧ ∀ hp_115 : zHp, hp_115 = va_up hp_103 a_112 (some (.inl (g.2.1 0, n_113, .inl (va_up f_114 x1.toNatClampNeg x_111)))) →
  (zo hp_115 (some h0) [5] fun a_191 ci_192 fs_193 => zMt l g yX5_tellNames cX5_tellNames 3 none d 0 0 (.ref a_191 :: [.int x1]) hp_115 nx_18 (zQv g fun hp_116 nx_117 =>
  (zo hp_116 (some h0) [5] fun a_188 ci_189 fs_190 => zMt l g yX5_isTooMuch cX5_isTooMuch 3 (some .boolean) d 0 0 (.ref a_188 :: []) hp_116 nx_117 (zQi g fun x_120 hp_118 nx_119 =>
  ((x_120 = 0 →
  (zgR hp_118 (some h0) [5] 1 fun r_124 =>
  (zaI (g.2.1 3) hp_118 r_124 fun a_125 n_126 f_127 => vp_in x1 n_126 ∧ zB g ≤ a_125 ∧ ∀ hp_128 : zHp, hp_128 = va_up hp_118 a_125 (some (.inl (g.2.1 3, n_126, .inl (va_up f_127 x1.toNatClampNeg (vp_nar .boolean (0 : Int32)))))) →
  (zgR hp_128 (some h0) [5] 2 fun r_132 =>
  (zaD (g.2.1 1) hp_128 r_132 fun a_133 n_134 f_135 => vp_in x1 n_134 ∧ zB g ≤ a_133 ∧ ∀ hp_136 : zHp, hp_136 = va_up hp_128 a_133 (some (.inl (g.2.1 1, n_134, .inr (.inr (.inr (.inl (va_up f_135 x1.toNatClampNeg FP.dconst0))))))) →
  (Post (1 : Int32) hp_136 nx_119)))))) ∧
  (¬ x_120 = 0 →
  (zgR hp_118 (some h0) [5] 3 fun r_140 =>
  (zaI (g.2.1 0) hp_118 r_140 fun a_141 n_142 f_143 => vp_in x1 n_142 ∧ zB g ≤ a_141 ∧ ∀ hp_144 : zHp, hp_144 = va_up hp_118 a_141 (some (.inl (g.2.1 0, n_142, .inl (va_up f_143 x1.toNatClampNeg x_27)))) →
  (zgR hp_144 (some h0) [5] 47 fun r_148 =>
  (zgR hp_144 (some h0) [5] 4 fun r_152 =>
  (zaR (g.2.1 14) hp_144 r_152 fun a_153 n_154 f_155 => vp_in x1 n_154 ∧ ∀ r_156 : Option Nat, r_156 = f_155 x1.toNatClampNeg →
  (zaI (g.2.1 0) hp_144 r_148 fun a_157 n_159 f_161 => zaI (g.2.1 0) hp_144 r_156 fun a_158 n_160 f_162 => zB g ≤ a_158 ∧ ¬ (0 : Int32) < 0 ∧ ¬ (0 : Int32) < 0 ∧ ¬ (96 : Int32) < 0 ∧ (0 : Int32).toNatClampNeg + (96 : Int32).toNatClampNeg ≤ n_159 ∧ (0 : Int32).toNatClampNeg + (96 : Int32).toNatClampNeg ≤ n_160 ∧ (∀ i, i < (96 : Int32).toNatClampNeg → fits .int (.int (f_161 ((0 : Int32).toNatClampNeg + i))) = true) ∧ ∀ hp_163 : zHp, hp_163 = va_up hp_144 a_158 (some (.inl (g.2.1 0, n_160, .inl (va_cpy f_161 f_162 (0 : Int32).toNatClampNeg (0 : Int32).toNatClampNeg (96 : Int32).toNatClampNeg)))) →
  (zgR hp_163 (some h0) [5] 48 fun r_167 =>
  (zgR hp_163 (some h0) [5] 5 fun r_171 =>
  (zaR (g.2.1 15) hp_163 r_171 fun a_172 n_173 f_174 => vp_in x1 n_173 ∧ ∀ r_175 : Option Nat, r_175 = f_174 x1.toNatClampNeg →
  (zaD (g.2.1 1) hp_163 r_167 fun a_176 n_178 f_180 => zaD (g.2.1 1) hp_163 r_175 fun a_177 n_179 f_181 => zB g ≤ a_177 ∧ ¬ (0 : Int32) < 0 ∧ ¬ (0 : Int32) < 0 ∧ ¬ (96 : Int32) < 0 ∧ (0 : Int32).toNatClampNeg + (96 : Int32).toNatClampNeg ≤ n_178 ∧ (0 : Int32).toNatClampNeg + (96 : Int32).toNatClampNeg ≤ n_179 ∧ (∀ i, i < (96 : Int32).toNatClampNeg → fits .double (.double (f_180 ((0 : Int32).toNatClampNeg + i))) = true) ∧ ∀ hp_182 : zHp, hp_182 = va_up hp_163 a_177 (some (.inl (g.2.1 1, n_179, .inr (.inr (.inr (.inl (va_cpy f_180 f_181 (0 : Int32).toNatClampNeg (0 : Int32).toNatClampNeg (96 : Int32).toNatClampNeg))))))) →
  (zo hp_182 (some h0) [5] fun a_185 ci_186 fs_187 => zMt l g yX5_tellNames cX5_tellNames 3 none d 0 0 (.ref a_185 :: [.int x1]) hp_182 nx_119 (zQv g fun hp_183 nx_184 =>
  (Post (-4 : Int32) hp_183 nx_184))))))))))))))))))))))))))))))))))))))))))))))) ∧
  (¬ x_13 = 0 →
  (Post (-3 : Int32) hp_11 nx_12))))))))))))))
set_option maxHeartbeats 40000000 in
theorem met_X5_formula {l : Launch} {g : zG} {d : Nat} {h0 : Nat} {x1 : Int32} {hp : zHp} {nx : Nat} {Post : Int32 → zHp → Nat → Prop} (hw : wp_X5_formula l g d h0 x1 hp nx Post) : zMt l g yX5_formula cX5_formula 4 (some .int) (d + 1) 0 0 [.ref h0, .int x1] hp nx (zQi g Post) := by
  refine z_start (by decide) (Nat.le_of_ble_eq_true rfl) ?_
  intro p e s m below meth c hk hr hin hH hz ls hl
  have hx := hk.1.1
  have hb := hk.1.2.1
  have hown := hk.1.2.2.2.1
  have hts := hk.1.2.2.2.2
  have hS : va_S (zAd g) s.heap s.heap [] := va_S.rf
  have hl : lv_has ls 4 [(0, va_rf (some h0)), (1, .int x1)] := hl
  unfold wp_X5_formula at hw
  refine lv_iload_n hx hb dX5_formula_0 rfl (lv_at hl 1 rfl) ?_
  refine zr_calli (zr_runS (As := [.int x1]) hk hH hz hS hl.1 hw (va_cwS 1 hts (lw_S q2908 q2909 q162 q2910) rfl rfl rfl (by decide +kernel) (z_room (Nat.le_of_ble_eq_true rfl))) rfl rfl (Nat.le_of_ble_eq_true rfl) dX5_formula_1 ⟨Nat.le_of_ble_eq_true rfl, Nat.le_of_ble_eq_true rfl⟩) hS (fun x_3 hp_1 nx_2 hw H locs hH hz hS => ?_)
  refine lv_if_ne (tgt := 10) hx hb dX5_formula_4 (by decide) (fun hc => ?_) (fun hc => ?_)
  · have hw := hw.2 hc
    refine zr_aload_n (r := some h0) hx hb dX5_formula_10 rfl (lv_at hl 0 rfl) ?_
    obtain ⟨a_207, ci_208, fs_209, er, he, hc, hw⟩ := zo_e hw
    obtain rfl := List.mem_singleton.mp hc
    refine zr_calli (zw_runV (As := []) hk hH hz hS hl.1 er hw (cwV 0 hts (lw_V q3078 q3080 qs93 q162 q3081) rfl rfl rfl (by decide +kernel) (z_room (Nat.le_of_ble_eq_true rfl))) he rfl rfl rfl (Nat.le_of_ble_eq_true rfl) dX5_formula_11 ⟨Nat.le_of_ble_eq_true rfl, Nat.le_of_ble_eq_true rfl⟩) hS (fun x_6 hp_4 nx_5 hw H locs hH hz hS => ?_)
    refine lv_istore_n (i := 2) (lv' := [(2, .int x_6), (0, va_rf (some h0)), (1, .int x1)]) hx hb dX5_formula_14 rfl hl (by decide) (by first | rfl | simp [List.filter_cons, z_cat, z_catI, z_catJ, z_catF, z_catD]) (fun ls hl => ?_)
    refine zr_aload_n (r := some h0) hx hb dX5_formula_15 rfl (lv_at hl 1 rfl) ?_
    refine lv_iconst (v := (0 : Int32)) hx hb dX5_formula_16 (by decide) ?_
    obtain ⟨a_7, ci_8, fs_9, hp_10, er, he, hc, hA, hkl, eh, hw⟩ := zpt_e hw
    refine zw_put hk hH hz hS er he hA hkl eh (fp_X5_348 hc) rfl rfl dX5_formula_17 (fun H locs hH hz hS => ?_)
    refine lv_iload_n hx hb dX5_formula_20 rfl (lv_at hl 0 rfl) ?_
    refine lv_if_ne (tgt := 32) hx hb dX5_formula_21 (by decide) (fun hc => ?_) (fun hc => ?_)
    · have hw := hw.2 hc
      refine zr_aload_n (r := some h0) hx hb dX5_formula_32 rfl (lv_at hl 1 rfl) ?_
      refine lv_iload_n hx hb dX5_formula_33 rfl (lv_at hl 2 rfl) ?_
      obtain ⟨a_200, ci_201, fs_202, er, he, hc, hw⟩ := zo_e hw
      obtain rfl := List.mem_singleton.mp hc
      refine zr_calli (zw_runV (As := [.int x1]) hk hH hz hS hl.1 er hw (cwV 1 hts (lw_V q3159 q3161 qs110 q162 q3162) rfl rfl rfl (by decide +kernel) (z_room (Nat.le_of_ble_eq_true rfl))) he rfl rfl rfl (Nat.le_of_ble_eq_true rfl) dX5_formula_34 ⟨Nat.le_of_ble_eq_true rfl, Nat.le_of_ble_eq_true rfl⟩) hS (fun x_13 hp_11 nx_12 hw H locs hH hz hS => ?_)
      refine lv_if_eq (tgt := 43) hx hb dX5_formula_37 (by decide) (fun hc => ?_) (fun hc => ?_)
      · have hw := hw.1 hc
        refine zr_aload_n (r := some h0) hx hb dX5_formula_43 rfl (lv_at hl 1 rfl) ?_
        refine zr_aload_n (r := some h0) hx hb dX5_formula_44 rfl (lv_at hl 1 rfl) ?_
        obtain ⟨a_197, ci_198, fs_199, er, he, hc, hw⟩ := zo_e hw
        obtain rfl := List.mem_singleton.mp hc
        refine zr_calli (zw_runV (As := []) hk hH hz hS hl.1 er hw (cwV 0 hts (lw_V q3163 q3165 qs111 q162 q3166) rfl rfl rfl (by decide +kernel) (z_room (Nat.le_of_ble_eq_true rfl))) he rfl rfl rfl (by simp only [List.map_cons, List.map_nil, z_cat]; exact Nat.le_of_ble_eq_true rfl) dX5_formula_45 ⟨Nat.le_of_ble_eq_true rfl, Nat.le_of_ble_eq_true rfl⟩) hS (fun x_16 hp_14 nx_15 hw H locs hH hz hS => ?_)
        obtain ⟨a_194, ci_195, fs_196, er, he, hc, hw⟩ := zo_e hw
        obtain rfl := List.mem_singleton.mp hc
        refine zr_calli (zw_runV (As := [.int x_16]) hk hH hz hS hl.1 er hw (cwV 1 hts (lw_V q3167 q3169 qs112 q162 q3170) rfl rfl rfl (by decide +kernel) (z_room (Nat.le_of_ble_eq_true rfl))) he rfl rfl rfl (Nat.le_of_ble_eq_true rfl) dX5_formula_48 ⟨Nat.le_of_ble_eq_true rfl, Nat.le_of_ble_eq_true rfl⟩) hS (fun x_19 hp_17 nx_18 hw H locs hH hz hS => ?_)
        refine lv_iload_n hx hb dX5_formula_51 rfl (lv_at hl 2 rfl) ?_
        refine lv_ishr hx hb dX5_formula_52 ?_
        refine lv_iconst (v := (1 : Int32)) hx hb dX5_formula_53 (by decide) ?_
        refine lv_iand hx hb dX5_formula_54 ?_
        refine lv_iconst (v := (1 : Int32)) hx hb dX5_formula_55 (by decide) ?_
        refine lv_icmp_ne (tgt := 62) hx hb dX5_formula_56 (by decide) (fun hc => ?_) (fun hc => ?_)
        · have hw := hw.2 hc
          refine zr_aload_n (r := some h0) hx hb dX5_formula_62 rfl (lv_at hl 1 rfl) ?_
          obtain ⟨a_20, ci_21, fs_22, r_23, er, he, hc, hv, hw⟩ := zgR_e hw
          refine zw_get hk hH er he hv (fk_X5_21 hc) dX5_formula_63 ?_
          refine lv_iload_n hx hb dX5_formula_66 rfl (lv_at hl 2 rfl) ?_
          obtain ⟨a_24, n_25, f_26, er, he, hi, hw⟩ := zaI_e hw
          have hw := hw _ rfl
          refine zw_iald hk hH er he hi dX5_formula_67 ?_
          generalize f_26 x1.toNatClampNeg = x_27 at hw ⊢
          refine lv_istore_n (i := 3) (lv' := [(3, .int x_27), (2, .int x_6), (0, va_rf (some h0)), (1, .int x1)]) hx hb dX5_formula_68 rfl hl (by decide) (by first | rfl | simp [List.filter_cons, z_cat, z_catI, z_catJ, z_catF, z_catD]) (fun ls hl => ?_)
          refine zr_aload_n (r := some h0) hx hb dX5_formula_69 rfl (lv_at hl 2 rfl) ?_
          obtain ⟨a_28, ci_29, fs_30, r_31, er, he, hc, hv, hw⟩ := zgR_e hw
          refine zw_get hk hH er he hv (fk_X5_26 hc) dX5_formula_70 ?_
          refine lv_iload_n hx hb dX5_formula_73 rfl (lv_at hl 3 rfl) ?_
          obtain ⟨a_32, n_33, f_34, er, he, hi, hw⟩ := zaR_e hw
          have hw := hw _ rfl
          refine zw_aald hk hH 14 er he rfl rfl hi dX5_formula_74 ?_
          generalize f_34 x1.toNatClampNeg = r_35 at hw ⊢
          refine lv_iconst (v := (0 : Int32)) hx hb dX5_formula_75 (by decide) ?_
          refine zr_aload_n (r := some h0) hx hb dX5_formula_76 rfl (lv_at hl 2 rfl) ?_
          obtain ⟨a_36, ci_37, fs_38, r_39, er, he, hc, hv, hw⟩ := zgR_e hw
          refine zw_get hk hH er he hv (fk_X5_111 hc) dX5_formula_77 ?_
          refine lv_iconst (v := (0 : Int32)) hx hb dX5_formula_80 (by decide) ?_
          refine lv_bipush (v := (96 : Int32)) hx hb dX5_formula_81 (by decide) ?_
          obtain ⟨a_40, n_42, f_44, er0, he0, hw⟩ := zaI_e hw
          obtain ⟨a_41, n_43, f_45, er1, he1, hA, h1, h2, h3, h4, h5, hft, hw⟩ := zaI_e hw
          obtain ⟨hp_46, eh⟩ : ∃ y : zHp, y = va_up hp_17 a_41 (some (.inl (g.2.1 0, n_43, .inl (va_cpy f_44 f_45 (0 : Int32).toNatClampNeg (0 : Int32).toNatClampNeg (96 : Int32).toNatClampNeg)))) := ⟨_, rfl⟩
          have hw := hw hp_46 eh
          refine zw_copyI (r0 := r_35) (r1 := r_39) (ty := .int) hk hH hz hS hl.1 q3171 q432 q431 q145 0 er0 er1 he0 he1 rfl rfl hA h1 h2 h3 h4 h5 hft eh (Nat.le_add_left 1 d) (Nat.le_trans (Nat.le_of_ble_eq_true rfl : _ ≤ 64) (by show 64 ≤ 64 * (d + 1); omega)) dX5_formula_83 (fun H locs hH hz hS => ?_)
          refine zr_aload_n (r := some h0) hx hb dX5_formula_86 rfl (lv_at hl 2 rfl) ?_
          obtain ⟨a_47, ci_48, fs_49, r_50, er, he, hc, hv, hw⟩ := zgR_e hw
          refine zw_get hk hH er he hv (fk_X5_31 hc) dX5_formula_87 ?_
          refine lv_iload_n hx hb dX5_formula_90 rfl (lv_at hl 3 rfl) ?_
          obtain ⟨a_51, n_52, f_53, er, he, hi, hw⟩ := zaR_e hw
          have hw := hw _ rfl
          refine zw_aald hk hH 15 er he rfl rfl hi dX5_formula_91 ?_
          generalize f_53 x1.toNatClampNeg = r_54 at hw ⊢
          refine lv_iconst (v := (0 : Int32)) hx hb dX5_formula_92 (by decide) ?_
          refine zr_aload_n (r := some h0) hx hb dX5_formula_93 rfl (lv_at hl 2 rfl) ?_
          obtain ⟨a_55, ci_56, fs_57, r_58, er, he, hc, hv, hw⟩ := zgR_e hw
          refine zw_get hk hH er he hv (fk_X5_114 hc) dX5_formula_94 ?_
          refine lv_iconst (v := (0 : Int32)) hx hb dX5_formula_97 (by decide) ?_
          refine lv_bipush (v := (96 : Int32)) hx hb dX5_formula_98 (by decide) ?_
          obtain ⟨a_59, n_61, f_63, er0, he0, hw⟩ := zaD_e hw
          obtain ⟨a_60, n_62, f_64, er1, he1, hA, h1, h2, h3, h4, h5, hft, hw⟩ := zaD_e hw
          obtain ⟨hp_65, eh⟩ : ∃ y : zHp, y = va_up hp_46 a_60 (some (.inl (g.2.1 1, n_62, .inr (.inr (.inr (.inl (va_cpy f_63 f_64 (0 : Int32).toNatClampNeg (0 : Int32).toNatClampNeg (96 : Int32).toNatClampNeg))))))) := ⟨_, rfl⟩
          have hw := hw hp_65 eh
          refine zw_copyD (r0 := r_54) (r1 := r_58) (ty := .double) hk hH hz hS hl.1 q3171 q432 q431 q145 1 er0 er1 he0 he1 rfl rfl hA h1 h2 h3 h4 h5 hft eh (Nat.le_add_left 1 d) (Nat.le_trans (Nat.le_of_ble_eq_true rfl : _ ≤ 64) (by show 64 ≤ 64 * (d + 1); omega)) dX5_formula_100 (fun H locs hH hz hS => ?_)
          refine zr_aload_n (r := some h0) hx hb dX5_formula_103 rfl (lv_at hl 2 rfl) ?_
          obtain ⟨a_66, ci_67, fs_68, r_69, er, he, hc, hv, hw⟩ := zgR_e hw
          refine zw_get hk hH er he hv (fk_X5_105 hc) dX5_formula_104 ?_
          refine lv_iconst (v := (0 : Int32)) hx hb dX5_formula_107 (by decide) ?_
          refine zr_aload_n (r := some h0) hx hb dX5_formula_108 rfl (lv_at hl 2 rfl) ?_
          obtain ⟨a_70, ci_71, fs_72, r_73, er, he, hc, hv, hw⟩ := zgR_e hw
          refine zw_get hk hH er he hv (fk_X5_26 hc) dX5_formula_109 ?_
          refine lv_iload_n hx hb dX5_formula_112 rfl (lv_at hl 3 rfl) ?_
          obtain ⟨a_74, n_75, f_76, er, he, hi, hw⟩ := zaR_e hw
          have hw := hw _ rfl
          refine zw_aald hk hH 14 er he rfl rfl hi dX5_formula_113 ?_
          generalize f_76 x1.toNatClampNeg = r_77 at hw ⊢
          refine lv_iconst (v := (0 : Int32)) hx hb dX5_formula_114 (by decide) ?_
          refine lv_bipush (v := (96 : Int32)) hx hb dX5_formula_115 (by decide) ?_
          obtain ⟨a_78, n_80, f_82, er0, he0, hw⟩ := zaI_e hw
          obtain ⟨a_79, n_81, f_83, er1, he1, hA, h1, h2, h3, h4, h5, hft, hw⟩ := zaI_e hw
          obtain ⟨hp_84, eh⟩ : ∃ y : zHp, y = va_up hp_65 a_79 (some (.inl (g.2.1 0, n_81, .inl (va_cpy f_82 f_83 (0 : Int32).toNatClampNeg (0 : Int32).toNatClampNeg (96 : Int32).toNatClampNeg)))) := ⟨_, rfl⟩
          have hw := hw hp_84 eh
          refine zw_copyI (r0 := r_69) (r1 := r_77) (ty := .int) hk hH hz hS hl.1 q3171 q432 q431 q145 0 er0 er1 he0 he1 rfl rfl hA h1 h2 h3 h4 h5 hft eh (Nat.le_add_left 1 d) (Nat.le_trans (Nat.le_of_ble_eq_true rfl : _ ≤ 64) (by show 64 ≤ 64 * (d + 1); omega)) dX5_formula_117 (fun H locs hH hz hS => ?_)
          refine zr_aload_n (r := some h0) hx hb dX5_formula_120 rfl (lv_at hl 2 rfl) ?_
          obtain ⟨a_85, ci_86, fs_87, r_88, er, he, hc, hv, hw⟩ := zgR_e hw
          refine zw_get hk hH er he hv (fk_X5_108 hc) dX5_formula_121 ?_
          refine lv_iconst (v := (0 : Int32)) hx hb dX5_formula_124 (by decide) ?_
          refine zr_aload_n (r := some h0) hx hb dX5_formula_125 rfl (lv_at hl 2 rfl) ?_
          obtain ⟨a_89, ci_90, fs_91, r_92, er, he, hc, hv, hw⟩ := zgR_e hw
          refine zw_get hk hH er he hv (fk_X5_31 hc) dX5_formula_126 ?_
          refine lv_iload_n hx hb dX5_formula_129 rfl (lv_at hl 3 rfl) ?_
          obtain ⟨a_93, n_94, f_95, er, he, hi, hw⟩ := zaR_e hw
          have hw := hw _ rfl
          refine zw_aald hk hH 15 er he rfl rfl hi dX5_formula_130 ?_
          generalize f_95 x1.toNatClampNeg = r_96 at hw ⊢
          refine lv_iconst (v := (0 : Int32)) hx hb dX5_formula_131 (by decide) ?_
          refine lv_bipush (v := (96 : Int32)) hx hb dX5_formula_132 (by decide) ?_
          obtain ⟨a_97, n_99, f_101, er0, he0, hw⟩ := zaD_e hw
          obtain ⟨a_98, n_100, f_102, er1, he1, hA, h1, h2, h3, h4, h5, hft, hw⟩ := zaD_e hw
          obtain ⟨hp_103, eh⟩ : ∃ y : zHp, y = va_up hp_84 a_98 (some (.inl (g.2.1 1, n_100, .inr (.inr (.inr (.inl (va_cpy f_101 f_102 (0 : Int32).toNatClampNeg (0 : Int32).toNatClampNeg (96 : Int32).toNatClampNeg))))))) := ⟨_, rfl⟩
          have hw := hw hp_103 eh
          refine zw_copyD (r0 := r_88) (r1 := r_96) (ty := .double) hk hH hz hS hl.1 q3171 q432 q431 q145 1 er0 er1 he0 he1 rfl rfl hA h1 h2 h3 h4 h5 hft eh (Nat.le_add_left 1 d) (Nat.le_trans (Nat.le_of_ble_eq_true rfl : _ ≤ 64) (by show 64 ≤ 64 * (d + 1); omega)) dX5_formula_134 (fun H locs hH hz hS => ?_)
          refine zr_aload_n (r := some h0) hx hb dX5_formula_137 rfl (lv_at hl 2 rfl) ?_
          obtain ⟨a_104, ci_105, fs_106, r_107, er, he, hc, hv, hw⟩ := zgR_e hw
          refine zw_get hk hH er he hv (fk_X5_21 hc) dX5_formula_138 ?_
          refine lv_iload_n hx hb dX5_formula_141 rfl (lv_at hl 3 rfl) ?_
          refine zr_aload_n (r := some h0) hx hb dX5_formula_142 rfl (lv_at hl 2 rfl) ?_
          obtain ⟨a_108, ci_109, fs_110, x_111, er, he, hc, hv, hw⟩ := zgI_e hw
          refine zw_get hk hH er he hv (fk_X5_424 hc) dX5_formula_143 ?_
          obtain ⟨a_112, n_113, f_114, er, he, hi, hA, hw⟩ := zaI_e hw
          obtain ⟨hp_115, eh⟩ : ∃ y : zHp, y = va_up hp_103 a_112 (some (.inl (g.2.1 0, n_113, .inl (va_up f_114 x1.toNatClampNeg x_111)))) := ⟨_, rfl⟩
          have hw := hw hp_115 eh
          refine zw_iast hk hH hz hS er he hi hA eh dX5_formula_146 (fun H locs hH hz hS => ?_)
          refine zr_aload_n (r := some h0) hx hb dX5_formula_147 rfl (lv_at hl 2 rfl) ?_
          refine lv_iload_n hx hb dX5_formula_148 rfl (lv_at hl 3 rfl) ?_
          obtain ⟨a_191, ci_192, fs_193, er, he, hc, hw⟩ := zo_e hw
          obtain rfl := List.mem_singleton.mp hc
          refine zr_callv (zw_runV (As := [.int x1]) hk hH hz hS hl.1 er hw (cwV 1 hts (lw_V q2937 q2939 qs70 q162 q2940) rfl rfl rfl (by decide +kernel) (z_room (Nat.le_of_ble_eq_true rfl))) he rfl rfl rfl (Nat.le_of_ble_eq_true rfl) dX5_formula_149 ⟨Nat.le_of_ble_eq_true rfl, Nat.le_of_ble_eq_true rfl⟩) hS (fun hp_116 nx_117 hw H locs hH hz hS => ?_)
          refine zr_aload_n (r := some h0) hx hb dX5_formula_152 rfl (lv_at hl 2 rfl) ?_
          obtain ⟨a_188, ci_189, fs_190, er, he, hc, hw⟩ := zo_e hw
          obtain rfl := List.mem_singleton.mp hc
          refine zr_calli (zw_runV (As := []) hk hH hz hS hl.1 er hw (cwV 0 hts (lw_V q3172 q3174 qs113 q162 q3175) rfl rfl rfl (by decide +kernel) (z_room (Nat.le_of_ble_eq_true rfl))) he rfl rfl rfl (Nat.le_of_ble_eq_true rfl) dX5_formula_153 ⟨Nat.le_of_ble_eq_true rfl, Nat.le_of_ble_eq_true rfl⟩) hS (fun x_120 hp_118 nx_119 hw H locs hH hz hS => ?_)
          refine lv_if_eq (tgt := 208) hx hb dX5_formula_156 (by decide) (fun hc => ?_) (fun hc => ?_)
          · have hw := hw.1 hc
            refine zr_aload_n (r := some h0) hx hb dX5_formula_208 rfl (lv_at hl 2 rfl) ?_
            obtain ⟨a_121, ci_122, fs_123, r_124, er, he, hc, hv, hw⟩ := zgR_e hw
            refine zw_get hk hH er he hv (fk_X5_13 hc) dX5_formula_209 ?_
            refine lv_iload_n hx hb dX5_formula_212 rfl (lv_at hl 3 rfl) ?_
            refine lv_iconst (v := (0 : Int32)) hx hb dX5_formula_213 (by decide) ?_
            obtain ⟨a_125, n_126, f_127, er, he, hi, hA, hw⟩ := zaI_e hw
            obtain ⟨hp_128, eh⟩ : ∃ y : zHp, y = va_up hp_118 a_125 (some (.inl (g.2.1 3, n_126, .inl (va_up f_127 x1.toNatClampNeg (vp_nar .boolean (0 : Int32)))))) := ⟨_, rfl⟩
            have hw := hw hp_128 eh
            refine zw_zast hk hH hz hS er he hi hA eh dX5_formula_214 (fun H locs hH hz hS => ?_)
            refine zr_aload_n (r := some h0) hx hb dX5_formula_215 rfl (lv_at hl 2 rfl) ?_
            obtain ⟨a_129, ci_130, fs_131, r_132, er, he, hc, hv, hw⟩ := zgR_e hw
            refine zw_get hk hH er he hv (fk_X5_17 hc) dX5_formula_216 ?_
            refine lv_iload_n hx hb dX5_formula_219 rfl (lv_at hl 3 rfl) ?_
            refine lv_dconst0 hx hb dX5_formula_220 ?_
            obtain ⟨a_133, n_134, f_135, er, he, hi, hA, hw⟩ := zaD_e hw
            obtain ⟨hp_136, eh⟩ : ∃ y : zHp, y = va_up hp_128 a_133 (some (.inl (g.2.1 1, n_134, .inr (.inr (.inr (.inl (va_up f_135 x1.toNatClampNeg FP.dconst0))))))) := ⟨_, rfl⟩
            have hw := hw hp_136 eh
            refine zw_dast hk hH hz hS er he hi hA eh dX5_formula_221 (fun H locs hH hz hS => ?_)
            refine lv_iconst (v := (1 : Int32)) hx hb dX5_formula_222 (by decide) ?_
            exact zr_iret hk hr hH hz hS hw (Nat.le_of_ble_eq_true rfl) (Nat.le_of_ble_eq_true rfl) dX5_formula_223
          · have hw := hw.2 hc
            refine zr_aload_n (r := some h0) hx hb dX5_formula_159 rfl (lv_at hl 2 rfl) ?_
            obtain ⟨a_137, ci_138, fs_139, r_140, er, he, hc, hv, hw⟩ := zgR_e hw
            refine zw_get hk hH er he hv (fk_X5_21 hc) dX5_formula_160 ?_
            refine lv_iload_n hx hb dX5_formula_163 rfl (lv_at hl 3 rfl) ?_
            refine lv_iload_n hx hb dX5_formula_164 rfl (lv_at hl 0 rfl) ?_
            obtain ⟨a_141, n_142, f_143, er, he, hi, hA, hw⟩ := zaI_e hw
            obtain ⟨hp_144, eh⟩ : ∃ y : zHp, y = va_up hp_118 a_141 (some (.inl (g.2.1 0, n_142, .inl (va_up f_143 x1.toNatClampNeg x_27)))) := ⟨_, rfl⟩
            have hw := hw hp_144 eh
            refine zw_iast hk hH hz hS er he hi hA eh dX5_formula_165 (fun H locs hH hz hS => ?_)
            refine zr_aload_n (r := some h0) hx hb dX5_formula_166 rfl (lv_at hl 2 rfl) ?_
            obtain ⟨a_145, ci_146, fs_147, r_148, er, he, hc, hv, hw⟩ := zgR_e hw
            refine zw_get hk hH er he hv (fk_X5_111 hc) dX5_formula_167 ?_
            refine lv_iconst (v := (0 : Int32)) hx hb dX5_formula_170 (by decide) ?_
            refine zr_aload_n (r := some h0) hx hb dX5_formula_171 rfl (lv_at hl 2 rfl) ?_
            obtain ⟨a_149, ci_150, fs_151, r_152, er, he, hc, hv, hw⟩ := zgR_e hw
            refine zw_get hk hH er he hv (fk_X5_26 hc) dX5_formula_172 ?_
            refine lv_iload_n hx hb dX5_formula_175 rfl (lv_at hl 3 rfl) ?_
            obtain ⟨a_153, n_154, f_155, er, he, hi, hw⟩ := zaR_e hw
            have hw := hw _ rfl
            refine zw_aald hk hH 14 er he rfl rfl hi dX5_formula_176 ?_
            generalize f_155 x1.toNatClampNeg = r_156 at hw ⊢
            refine lv_iconst (v := (0 : Int32)) hx hb dX5_formula_177 (by decide) ?_
            refine lv_bipush (v := (96 : Int32)) hx hb dX5_formula_178 (by decide) ?_
            obtain ⟨a_157, n_159, f_161, er0, he0, hw⟩ := zaI_e hw
            obtain ⟨a_158, n_160, f_162, er1, he1, hA, h1, h2, h3, h4, h5, hft, hw⟩ := zaI_e hw
            obtain ⟨hp_163, eh⟩ : ∃ y : zHp, y = va_up hp_144 a_158 (some (.inl (g.2.1 0, n_160, .inl (va_cpy f_161 f_162 (0 : Int32).toNatClampNeg (0 : Int32).toNatClampNeg (96 : Int32).toNatClampNeg)))) := ⟨_, rfl⟩
            have hw := hw hp_163 eh
            refine zw_copyI (r0 := r_148) (r1 := r_156) (ty := .int) hk hH hz hS hl.1 q3171 q432 q431 q145 0 er0 er1 he0 he1 rfl rfl hA h1 h2 h3 h4 h5 hft eh (Nat.le_add_left 1 d) (Nat.le_trans (Nat.le_of_ble_eq_true rfl : _ ≤ 64) (by show 64 ≤ 64 * (d + 1); omega)) dX5_formula_180 (fun H locs hH hz hS => ?_)
            refine zr_aload_n (r := some h0) hx hb dX5_formula_183 rfl (lv_at hl 2 rfl) ?_
            obtain ⟨a_164, ci_165, fs_166, r_167, er, he, hc, hv, hw⟩ := zgR_e hw
            refine zw_get hk hH er he hv (fk_X5_114 hc) dX5_formula_184 ?_
            refine lv_iconst (v := (0 : Int32)) hx hb dX5_formula_187 (by decide) ?_
            refine zr_aload_n (r := some h0) hx hb dX5_formula_188 rfl (lv_at hl 2 rfl) ?_
            obtain ⟨a_168, ci_169, fs_170, r_171, er, he, hc, hv, hw⟩ := zgR_e hw
            refine zw_get hk hH er he hv (fk_X5_31 hc) dX5_formula_189 ?_
            refine lv_iload_n hx hb dX5_formula_192 rfl (lv_at hl 3 rfl) ?_
            obtain ⟨a_172, n_173, f_174, er, he, hi, hw⟩ := zaR_e hw
            have hw := hw _ rfl
            refine zw_aald hk hH 15 er he rfl rfl hi dX5_formula_193 ?_
            generalize f_174 x1.toNatClampNeg = r_175 at hw ⊢
            refine lv_iconst (v := (0 : Int32)) hx hb dX5_formula_194 (by decide) ?_
            refine lv_bipush (v := (96 : Int32)) hx hb dX5_formula_195 (by decide) ?_
            obtain ⟨a_176, n_178, f_180, er0, he0, hw⟩ := zaD_e hw
            obtain ⟨a_177, n_179, f_181, er1, he1, hA, h1, h2, h3, h4, h5, hft, hw⟩ := zaD_e hw
            obtain ⟨hp_182, eh⟩ : ∃ y : zHp, y = va_up hp_163 a_177 (some (.inl (g.2.1 1, n_179, .inr (.inr (.inr (.inl (va_cpy f_180 f_181 (0 : Int32).toNatClampNeg (0 : Int32).toNatClampNeg (96 : Int32).toNatClampNeg))))))) := ⟨_, rfl⟩
            have hw := hw hp_182 eh
            refine zw_copyD (r0 := r_167) (r1 := r_175) (ty := .double) hk hH hz hS hl.1 q3171 q432 q431 q145 1 er0 er1 he0 he1 rfl rfl hA h1 h2 h3 h4 h5 hft eh (Nat.le_add_left 1 d) (Nat.le_trans (Nat.le_of_ble_eq_true rfl : _ ≤ 64) (by show 64 ≤ 64 * (d + 1); omega)) dX5_formula_197 (fun H locs hH hz hS => ?_)
            refine zr_aload_n (r := some h0) hx hb dX5_formula_200 rfl (lv_at hl 2 rfl) ?_
            refine lv_iload_n hx hb dX5_formula_201 rfl (lv_at hl 3 rfl) ?_
            obtain ⟨a_185, ci_186, fs_187, er, he, hc, hw⟩ := zo_e hw
            obtain rfl := List.mem_singleton.mp hc
            refine zr_callv (zw_runV (As := [.int x1]) hk hH hz hS hl.1 er hw (cwV 1 hts (lw_V q2937 q2939 qs70 q162 q2940) rfl rfl rfl (by decide +kernel) (z_room (Nat.le_of_ble_eq_true rfl))) he rfl rfl rfl (Nat.le_of_ble_eq_true rfl) dX5_formula_202 ⟨Nat.le_of_ble_eq_true rfl, Nat.le_of_ble_eq_true rfl⟩) hS (fun hp_183 nx_184 hw H locs hH hz hS => ?_)
            refine lv_bipush (v := (-4 : Int32)) hx hb dX5_formula_205 (by decide) ?_
            exact zr_iret hk hr hH hz hS hw (Nat.le_of_ble_eq_true rfl) (Nat.le_of_ble_eq_true rfl) dX5_formula_207
        · have hw := hw.1 hc
          refine lv_bipush (v := (-5 : Int32)) hx hb dX5_formula_59 (by decide) ?_
          exact zr_iret hk hr hH hz hS hw (Nat.le_of_ble_eq_true rfl) (Nat.le_of_ble_eq_true rfl) dX5_formula_61
      · have hw := hw.2 hc
        refine lv_bipush (v := (-3 : Int32)) hx hb dX5_formula_40 (by decide) ?_
        exact zr_iret hk hr hH hz hS hw (Nat.le_of_ble_eq_true rfl) (Nat.le_of_ble_eq_true rfl) dX5_formula_42
    · have hw := hw.1 hc
      refine lv_bipush (v := (-100 : Int32)) hx hb dX5_formula_24 (by decide) ?_
      refine zr_aload_n (r := some h0) hx hb dX5_formula_26 rfl (lv_at hl 1 rfl) ?_
      obtain ⟨a_203, ci_204, fs_205, x_206, er, he, hc, hv, hw⟩ := zgI_e hw
      refine zw_get hk hH er he hv (fk_X5_361 hc) dX5_formula_27 ?_
      refine lv_isub hx hb dX5_formula_30 ?_
      exact zr_iret hk hr hH hz hS hw (Nat.le_of_ble_eq_true rfl) (Nat.le_of_ble_eq_true rfl) dX5_formula_31
  · have hw := hw.1 hc
    refine lv_bipush (v := (-2 : Int32)) hx hb dX5_formula_7 (by decide) ?_
    exact zr_iret hk hr hH hz hS hw (Nat.le_of_ble_eq_true rfl) (Nat.le_of_ble_eq_true rfl) dX5_formula_9
theorem fp_X5_351 {ci : Nat} (h : ci ∈ [5]) : zFp "WhatIfSheetModel" 351 ci 39 .int := by
  simp only [List.mem_cons, List.not_mem_nil, or_false] at h
  rcases h with rfl
  · exact ⟨RX5, TX5, 76, rfl, by decide, q2713, rfl, by decide +kernel⟩
theorem fp_X5_424 {ci : Nat} (h : ci ∈ [5]) : zFp "WhatIfSheetModel" 424 ci 37 .int := by
  simp only [List.mem_cons, List.not_mem_nil, or_false] at h
  rcases h with rfl
  · exact ⟨RX5, TX5, 76, rfl, by decide, q2711, rfl, by decide +kernel⟩
theorem fp_X5_450 {ci : Nat} (h : ci ∈ [5]) : zFp "WhatIfSheetModel" 450 ci 38 .int := by
  simp only [List.mem_cons, List.not_mem_nil, or_false] at h
  rcases h with rfl
  · exact ⟨RX5, TX5, 76, rfl, by decide, q2712, rfl, by decide +kernel⟩
theorem fp_X5_438 {ci : Nat} (h : ci ∈ [5]) : zFp "WhatIfSheetModel" 438 ci 45 .int := by
  simp only [List.mem_cons, List.not_mem_nil, or_false] at h
  rcases h with rfl
  · exact ⟨RX5, TX5, 76, rfl, by decide, q2719, rfl, by decide +kernel⟩
theorem fp_X5_357 {ci : Nat} (h : ci ∈ [5]) : zFp "WhatIfSheetModel" 357 ci 46 .boolean := by
  simp only [List.mem_cons, List.not_mem_nil, or_false] at h
  rcases h with rfl
  · exact ⟨RX5, TX5, 76, rfl, by decide, q2720, rfl, by decide +kernel⟩
theorem fk_X5_357 {ci : Nat} (h : ci ∈ [5]) : zFk "WhatIfSheetModel" 357 ci 46 := by
  simp only [List.mem_cons, List.not_mem_nil, or_false] at h
  rcases h with rfl
  · exact ⟨RX5, TX5, 76, rfl, by decide, q2720⟩
theorem fk_X5_364 {ci : Nat} (h : ci ∈ [5]) : zFk "WhatIfSheetModel" 364 ci 41 := by
  simp only [List.mem_cons, List.not_mem_nil, or_false] at h
  rcases h with rfl
  · exact ⟨RX5, TX5, 76, rfl, by decide, q2715⟩
def wp_X5_isRead (l : Launch) (g : zG) (d : Nat) (h0 : Nat) (hp : zHp) (nx : Nat) (Post : Int32 → zHp → Nat → Prop) : Prop :=
  (zpt g hp (some h0) [5] 39 (.int (0 : Int32)) fun hp_4 =>
  (zpt g hp_4 (some h0) [5] 37 (.int (0 : Int32)) fun hp_8 =>
  (zpt g hp_8 (some h0) [5] 38 (.int (0 : Int32)) fun hp_12 =>
  (zpt g hp_12 (some h0) [5] 45 (.int (0 : Int32)) fun hp_16 =>
  (zpt g hp_16 (some h0) [5] 46 (.int (0 : Int32)) fun hp_20 =>
  (zo hp_20 (some h0) [5] fun a_52 ci_53 fs_54 => zMt l g yX5_next cX5_next 1 none d 0 0 (.ref a_52 :: []) hp_20 nx (zQv g fun hp_21 nx_22 =>
  (zo hp_21 (some h0) [5] fun a_49 ci_50 fs_51 => zMt l g yX5_all cX5_all 2 none d 0 0 (.ref a_49 :: []) hp_21 nx_22 (zQv g fun hp_23 nx_24 =>
  (zgI hp_23 (some h0) [5] 46 fun x_28 =>
  (zgI hp_23 (some h0) [5] 41 fun x_32 =>
  (∃ P_50 : (Option Nat) → Int32 → Int32 → zHp → Nat → Prop, (∀ (r_33 : Option Nat) (x_34 : Int32) (x_35 : Int32) (hp_36 : zHp) (nx_37 : Nat), P_50 r_33 x_34 x_35 hp_36 nx_37 →
  (((x_34 ||| x_35) = 0 ∨ (x_34 ||| x_35) = 1) ∧ zpt g hp_36 r_33 [5] 46 (.int (x_34 ||| x_35)) fun hp_41 =>
  (zgI hp_41 (some h0) [5] 46 fun x_45 =>
  (∃ P_66 : Int32 → zHp → Nat → Prop, (∀ (x_46 : Int32) (hp_47 : zHp) (nx_48 : Nat), P_66 x_46 hp_47 nx_48 →
  (((x_46 = 0 ∨ x_46 = 1) ∧ Post x_46 hp_47 nx_48))) ∧
  ((x_45 = 0 →
  P_66 (1 : Int32) hp_41 nx_37) ∧
  (¬ x_45 = 0 →
  P_66 (0 : Int32) hp_41 nx_37)))))) ∧
  ((x_32 = 0 →
  P_50 (some h0) x_28 (0 : Int32) hp_23 nx_24) ∧
  (¬ x_32 = 0 →
  P_50 (some h0) x_28 (1 : Int32) hp_23 nx_24))))))))))))))
set_option maxHeartbeats 40000000 in
theorem met_X5_isRead {l : Launch} {g : zG} {d : Nat} {h0 : Nat} {hp : zHp} {nx : Nat} {Post : Int32 → zHp → Nat → Prop} (hw : wp_X5_isRead l g d h0 hp nx Post) : zMt l g yX5_isRead cX5_isRead 1 (some .boolean) (d + 1) 0 0 [.ref h0] hp nx (zQi g Post) := by
  refine z_start (by decide) (Nat.le_of_ble_eq_true rfl) ?_
  intro p e s m below meth c hk hr hin hH hz ls hl
  have hx := hk.1.1
  have hb := hk.1.2.1
  have hown := hk.1.2.2.2.1
  have hts := hk.1.2.2.2.2
  have hS : va_S (zAd g) s.heap s.heap [] := va_S.rf
  have hl : lv_has ls 1 [(0, va_rf (some h0))] := hl
  unfold wp_X5_isRead at hw
  refine zr_aload_n (r := some h0) hx hb dX5_isRead_0 rfl (lv_at hl 0 rfl) ?_
  refine lv_iconst (v := (0 : Int32)) hx hb dX5_isRead_1 (by decide) ?_
  obtain ⟨a_1, ci_2, fs_3, hp_4, er, he, hc, hA, hkl, eh, hw⟩ := zpt_e hw
  refine zw_put hk hH hz hS er he hA hkl eh (fp_X5_351 hc) rfl rfl dX5_isRead_2 (fun H locs hH hz hS => ?_)
  refine zr_aload_n (r := some h0) hx hb dX5_isRead_5 rfl (lv_at hl 0 rfl) ?_
  refine lv_iconst (v := (0 : Int32)) hx hb dX5_isRead_6 (by decide) ?_
  obtain ⟨a_5, ci_6, fs_7, hp_8, er, he, hc, hA, hkl, eh, hw⟩ := zpt_e hw
  refine zw_put hk hH hz hS er he hA hkl eh (fp_X5_424 hc) rfl rfl dX5_isRead_7 (fun H locs hH hz hS => ?_)
  refine zr_aload_n (r := some h0) hx hb dX5_isRead_10 rfl (lv_at hl 0 rfl) ?_
  refine lv_iconst (v := (0 : Int32)) hx hb dX5_isRead_11 (by decide) ?_
  obtain ⟨a_9, ci_10, fs_11, hp_12, er, he, hc, hA, hkl, eh, hw⟩ := zpt_e hw
  refine zw_put hk hH hz hS er he hA hkl eh (fp_X5_450 hc) rfl rfl dX5_isRead_12 (fun H locs hH hz hS => ?_)
  refine zr_aload_n (r := some h0) hx hb dX5_isRead_15 rfl (lv_at hl 0 rfl) ?_
  refine lv_iconst (v := (0 : Int32)) hx hb dX5_isRead_16 (by decide) ?_
  obtain ⟨a_13, ci_14, fs_15, hp_16, er, he, hc, hA, hkl, eh, hw⟩ := zpt_e hw
  refine zw_put hk hH hz hS er he hA hkl eh (fp_X5_438 hc) rfl rfl dX5_isRead_17 (fun H locs hH hz hS => ?_)
  refine zr_aload_n (r := some h0) hx hb dX5_isRead_20 rfl (lv_at hl 0 rfl) ?_
  refine lv_iconst (v := (0 : Int32)) hx hb dX5_isRead_21 (by decide) ?_
  obtain ⟨a_17, ci_18, fs_19, hp_20, er, he, hc, hA, hkl, eh, hw⟩ := zpt_e hw
  refine zw_put hk hH hz hS er he hA hkl eh (fp_X5_357 hc) (z_nb (Or.inl rfl)) (z_fb (Or.inl rfl)) dX5_isRead_22 (fun H locs hH hz hS => ?_)
  refine zr_aload_n (r := some h0) hx hb dX5_isRead_25 rfl (lv_at hl 0 rfl) ?_
  obtain ⟨a_52, ci_53, fs_54, er, he, hc, hw⟩ := zo_e hw
  obtain rfl := List.mem_singleton.mp hc
  refine zr_callv (zw_runV (As := []) hk hH hz hS hl.1 er hw (cwV 0 hts (lw_V q3082 q3084 qs94 q162 q3085) rfl rfl rfl (by decide +kernel) (z_room (Nat.le_of_ble_eq_true rfl))) he rfl rfl rfl (Nat.le_of_ble_eq_true rfl) dX5_isRead_26 ⟨Nat.le_of_ble_eq_true rfl, Nat.le_of_ble_eq_true rfl⟩) hS (fun hp_21 nx_22 hw H locs hH hz hS => ?_)
  refine zr_aload_n (r := some h0) hx hb dX5_isRead_29 rfl (lv_at hl 0 rfl) ?_
  obtain ⟨a_49, ci_50, fs_51, er, he, hc, hw⟩ := zo_e hw
  obtain rfl := List.mem_singleton.mp hc
  refine zr_callv (zw_runV (As := []) hk hH hz hS hl.1 er hw (cwV 0 hts (lw_V q3119 q3121 qs100 q162 q3122) rfl rfl rfl (by decide +kernel) (z_room (Nat.le_of_ble_eq_true rfl))) he rfl rfl rfl (Nat.le_of_ble_eq_true rfl) dX5_isRead_30 ⟨Nat.le_of_ble_eq_true rfl, Nat.le_of_ble_eq_true rfl⟩) hS (fun hp_23 nx_24 hw H locs hH hz hS => ?_)
  refine zr_aload_n (r := some h0) hx hb dX5_isRead_33 rfl (lv_at hl 0 rfl) ?_
  refine lv_dup hx hb dX5_isRead_34 (z_cat _) ?_
  obtain ⟨a_25, ci_26, fs_27, x_28, er, he, hc, hv, hw⟩ := zgI_e hw
  refine zw_get hk hH er he hv (fk_X5_357 hc) dX5_isRead_35 ?_
  refine zr_aload_n (r := some h0) hx hb dX5_isRead_38 rfl (lv_at hl 0 rfl) ?_
  obtain ⟨a_29, ci_30, fs_31, x_32, er, he, hc, hv, hw⟩ := zgI_e hw
  refine zw_get hk hH er he hv (fk_X5_364 hc) dX5_isRead_39 ?_
  obtain ⟨P_50, hP_50, hw⟩ := hw
  have hJ_50 : ∀ (r_33 : Option Nat) (x_34 : Int32) (x_35 : Int32) (hp_36 : zHp) (nx_37 : Nat) (H : Heap) (locs : List Loc) (ls : Array Slot), P_50 r_33 x_34 x_35 hp_36 nx_37 → lv_has ls 1 [(0, va_rf (some h0))] → zHd g hp_36 H → H.size = nx_37 → va_S (zAd g) s.heap H locs → W p l e (zrm (d + 1) 0 0) s m ([.ref h0] : List Value).toArray below meth c H locs 0 0 (MQ below (zQi g Post) ([.ref h0] : List Value).toArray s 0 0 (zAd g)) (F0 m 50 ls [.int x_35, .int x_34, va_rf r_33]) := by
    intro r_33 x_34 x_35 hp_36 nx_37 H locs ls hw hl hH hz hS
    have hw := hP_50 r_33 x_34 x_35 hp_36 nx_37 hw
    refine lv_ior hx hb dX5_isRead_50 ?_
    obtain ⟨hbo, hw⟩ := hw
    obtain ⟨a_38, ci_39, fs_40, hp_41, er, he, hc, hA, hkl, eh, hw⟩ := zpt_e hw
    refine zw_put hk hH hz hS er he hA hkl eh (fp_X5_357 hc) (z_nb hbo) (z_fb hbo) dX5_isRead_51 (fun H locs hH hz hS => ?_)
    refine zr_aload_n (r := some h0) hx hb dX5_isRead_54 rfl (lv_at hl 0 rfl) ?_
    obtain ⟨a_42, ci_43, fs_44, x_45, er, he, hc, hv, hw⟩ := zgI_e hw
    refine zw_get hk hH er he hv (fk_X5_357 hc) dX5_isRead_55 ?_
    obtain ⟨P_66, hP_66, hw⟩ := hw
    have hJ_66 : ∀ (x_46 : Int32) (hp_47 : zHp) (nx_48 : Nat) (H : Heap) (locs : List Loc) (ls : Array Slot), P_66 x_46 hp_47 nx_48 → lv_has ls 1 [(0, va_rf (some h0))] → zHd g hp_47 H → H.size = nx_48 → va_S (zAd g) s.heap H locs → W p l e (zrm (d + 1) 0 0) s m ([.ref h0] : List Value).toArray below meth c H locs 0 0 (MQ below (zQi g Post) ([.ref h0] : List Value).toArray s 0 0 (zAd g)) (F0 m 66 ls [.int x_46]) := by
      intro x_46 hp_47 nx_48 H locs ls hw hl hH hz hS
      have hw := hP_66 x_46 hp_47 nx_48 hw
      exact zr_zret hk hr hH hz hS hw.1 hw.2 (Nat.le_of_ble_eq_true rfl) (Nat.le_of_ble_eq_true rfl) dX5_isRead_66
    refine lv_if_ne (tgt := 65) hx hb dX5_isRead_58 (by decide) (fun hc => ?_) (fun hc => ?_)
    · have hw := hw.2 hc
      refine lv_iconst (v := (0 : Int32)) hx hb dX5_isRead_65 (by decide) ?_
      exact hJ_66 (0 : Int32) hp_41 nx_37 _ _ _ hw hl hH hz hS
    · have hw := hw.1 hc
      refine lv_iconst (v := (1 : Int32)) hx hb dX5_isRead_61 (by decide) ?_
      refine lv_goto (tgt := 66) hx hb dX5_isRead_62 (by decide) ?_
      exact hJ_66 (1 : Int32) hp_41 nx_37 _ _ _ hw hl hH hz hS
  refine lv_if_eq (tgt := 49) hx hb dX5_isRead_42 (by decide) (fun hc => ?_) (fun hc => ?_)
  · have hw := hw.1 hc
    refine lv_iconst (v := (0 : Int32)) hx hb dX5_isRead_49 (by decide) ?_
    exact hJ_50 (some h0) x_28 (0 : Int32) hp_23 nx_24 _ _ _ hw hl hH hz hS
  · have hw := hw.2 hc
    refine lv_iconst (v := (1 : Int32)) hx hb dX5_isRead_45 (by decide) ?_
    refine lv_goto (tgt := 50) hx hb dX5_isRead_46 (by decide) ?_
    exact hJ_50 (some h0) x_28 (1 : Int32) hp_23 nx_24 _ _ _ hw hl hH hz hS
theorem fk_X5_351 {ci : Nat} (h : ci ∈ [5]) : zFk "WhatIfSheetModel" 351 ci 39 := by
  simp only [List.mem_cons, List.not_mem_nil, or_false] at h
  rcases h with rfl
  · exact ⟨RX5, TX5, 76, rfl, by decide, q2713⟩
theorem fp_X5_361 {ci : Nat} (h : ci ∈ [5]) : zFp "WhatIfSheetModel" 361 ci 40 .int := by
  simp only [List.mem_cons, List.not_mem_nil, or_false] at h
  rcases h with rfl
  · exact ⟨RX5, TX5, 76, rfl, by decide, q2714, rfl, by decide +kernel⟩
theorem fp_X5_364 {ci : Nat} (h : ci ∈ [5]) : zFp "WhatIfSheetModel" 364 ci 41 .int := by
  simp only [List.mem_cons, List.not_mem_nil, or_false] at h
  rcases h with rfl
  · exact ⟨RX5, TX5, 76, rfl, by decide, q2715, rfl, by decide +kernel⟩
theorem fp_X5_378 {ci : Nat} (h : ci ∈ [5]) : zFp "WhatIfSheetModel" 378 ci 42 .int := by
  simp only [List.mem_cons, List.not_mem_nil, or_false] at h
  rcases h with rfl
  · exact ⟨RX5, TX5, 76, rfl, by decide, q2716, rfl, by decide +kernel⟩
theorem fk_X5_378 {ci : Nat} (h : ci ∈ [5]) : zFk "WhatIfSheetModel" 378 ci 42 := by
  simp only [List.mem_cons, List.not_mem_nil, or_false] at h
  rcases h with rfl
  · exact ⟨RX5, TX5, 76, rfl, by decide, q2716⟩
def wp_X5_next (l : Launch) (g : zG) (d : Nat) (h0 : Nat) (hp : zHp) (nx : Nat) (Post : zHp → Nat → Prop) : Prop :=
  (zgI hp (some h0) [5] 46 fun x_4 =>
  ((x_4 = 0 →
  (∃ I_8 : Nat → zHp → Nat → Prop, (∃ n_201, I_8 n_201 hp nx) ∧ ∀ (n_7 : Nat) (hp_5 : zHp) (nx_6 : Nat), I_8 n_7 hp_5 nx_6 →
  (zgI hp_5 (some h0) [5] 39 fun x_11 =>
  (zo hp_5 (some h0) [5] fun a_198 ci_199 fs_200 => zMt l g yX5_byteAt cX5_byteAt 2 (some .int) d 0 0 (.ref a_198 :: [.int x_11]) hp_5 nx_6 (zQi g fun x_14 hp_12 nx_13 =>
  (∃ P_34 : zHp → Nat → Prop, (∀ (hp_15 : zHp) (nx_16 : Nat), P_34 hp_15 nx_16 →
  (zgI hp_15 (some h0) [5] 39 fun x_20 =>
  (zpt g hp_15 (some h0) [5] 39 (.int (x_20 + (1 : Int32))) fun hp_24 =>
  (∃ k_25, k_25 < n_7 ∧ I_8 k_25 hp_24 nx_16)))) ∧
  ((x_14 = (32 : Int32) →
  P_34 hp_12 nx_13) ∧
  (¬ x_14 = (32 : Int32) →
  (zgI hp_12 (some h0) [5] 39 fun x_29 =>
  (zo hp_12 (some h0) [5] fun a_195 ci_196 fs_197 => zMt l g yX5_byteAt cX5_byteAt 2 (some .int) d 0 0 (.ref a_195 :: [.int x_29]) hp_12 nx_13 (zQi g fun x_32 hp_30 nx_31 =>
  ((x_32 = (10 : Int32) →
  P_34 hp_30 nx_31) ∧
  (¬ x_32 = (10 : Int32) →
  (zgI hp_30 (some h0) [5] 39 fun x_36 =>
  (zpt g hp_30 (some h0) [5] 40 (.int x_36) fun hp_40 =>
  (zgI hp_40 (some h0) [5] 39 fun x_44 =>
  (zgI hp_40 (some h0) [5] 34 fun x_48 =>
  (∃ P_242 : zHp → Nat → Prop, (∀ (hp_49 : zHp) (nx_50 : Nat), P_242 hp_49 nx_50 →
  (Post hp_49 nx_50)) ∧
  ((x_44 = x_48 →
  (zpt g hp_40 (some h0) [5] 41 (.int (0 : Int32)) fun hp_194 =>
  P_242 hp_194 nx_31)) ∧
  (¬ x_44 = x_48 →
  (zgI hp_40 (some h0) [5] 39 fun x_54 =>
  (zo hp_40 (some h0) [5] fun a_188 ci_189 fs_190 => zMt l g yX5_byteAt cX5_byteAt 2 (some .int) d 0 0 (.ref a_188 :: [.int x_54]) hp_40 nx_31 (zQi g fun x_57 hp_55 nx_56 =>
  (zMt l g yX5_in cX5_in 3 (some .boolean) d 0 0 [.int x_57, .int (97 : Int32), .int (122 : Int32)] hp_55 nx_56 (zQi g fun x_60 hp_58 nx_59 =>
  ((x_60 = 0 →
  (zo hp_58 (some h0) [5] fun a_117 ci_118 fs_119 => zMt l g yX5_isDigit cX5_isDigit 1 (some .boolean) d 0 0 (.ref a_117 :: []) hp_58 nx_59 (zQi g fun x_63 hp_61 nx_62 =>
  ((x_63 = 0 →
  (zpt g hp_61 (some h0) [5] 41 (.int (3 : Int32)) fun hp_67 =>
  (zgI hp_67 (some h0) [5] 39 fun x_71 =>
  (zo hp_67 (some h0) [5] fun a_105 ci_106 fs_107 => zMt l g yX5_byteAt cX5_byteAt 2 (some .int) d 0 0 (.ref a_105 :: [.int x_71]) hp_67 nx_62 (zQi g fun x_74 hp_72 nx_73 =>
  (zpt g hp_72 (some h0) [5] 42 (.int x_74) fun hp_78 =>
  (zgI hp_78 (some h0) [5] 39 fun x_82 =>
  (zpt g hp_78 (some h0) [5] 39 (.int (x_82 + (1 : Int32))) fun hp_86 =>
  (zgI hp_86 (some h0) [5] 42 fun x_90 =>
  (zo hp_86 (some (g.2.2.2.2 17)) [40] fun a_102 ci_103 fs_104 => zMt l g yJ7_indexOf cJ7_indexOf 2 (some .int) d 0 0 (.ref a_102 :: [.int x_90]) hp_86 nx_73 (zQi g fun x_93 hp_91 nx_92 =>
  (∃ P_239 : (Option Nat) → Int32 → zHp → Nat → Prop, (∀ (r_94 : Option Nat) (x_95 : Int32) (hp_96 : zHp) (nx_97 : Nat), P_239 r_94 x_95 hp_96 nx_97 →
  ((x_95 = 0 ∨ x_95 = 1) ∧ zpt g hp_96 r_94 [5] 46 (.int x_95) fun hp_101 =>
  P_242 hp_101 nx_97)) ∧
  ((0 ≤ x_93 →
  P_239 (some h0) (0 : Int32) hp_91 nx_92) ∧
  (¬ 0 ≤ x_93 →
  P_239 (some h0) (1 : Int32) hp_91 nx_92)))))))))))))) ∧
  (¬ x_63 = 0 →
  (zpt g hp_61 (some h0) [5] 41 (.int (2 : Int32)) fun hp_111 =>
  (zo hp_111 (some h0) [5] fun a_114 ci_115 fs_116 => zMt l g yX5_number cX5_number 4 none d 0 0 (.ref a_114 :: []) hp_111 nx_62 (zQv g fun hp_112 nx_113 =>
  P_242 hp_112 nx_113)))))))) ∧
  (¬ x_60 = 0 →
  (zpt g hp_58 (some h0) [5] 41 (.int (1 : Int32)) fun hp_123 =>
  (∃ I_97 : Nat → zHp → Nat → Prop, (∃ n_187, I_97 n_187 hp_123 nx_59) ∧ ∀ (n_126 : Nat) (hp_124 : zHp) (nx_125 : Nat), I_97 n_126 hp_124 nx_125 →
  (zgI hp_124 (some h0) [5] 39 fun x_130 =>
  (zo hp_124 (some h0) [5] fun a_184 ci_185 fs_186 => zMt l g yX5_byteAt cX5_byteAt 2 (some .int) d 0 0 (.ref a_184 :: [.int x_130]) hp_124 nx_125 (zQi g fun x_133 hp_131 nx_132 =>
  (zMt l g yX5_in cX5_in 3 (some .boolean) d 0 0 [.int x_133, .int (97 : Int32), .int (122 : Int32)] hp_131 nx_132 (zQi g fun x_136 hp_134 nx_135 =>
  ((x_136 = 0 →
  (zgI hp_134 (some h0) [5] 39 fun x_140 =>
  (zgI hp_134 (some h0) [5] 40 fun x_144 =>
  (∃ P_168 : (Option Nat) → Int32 → zHp → Nat → Prop, (∀ (r_145 : Option Nat) (x_146 : Int32) (hp_147 : zHp) (nx_148 : Nat), P_168 r_145 x_146 hp_147 nx_148 →
  ((x_146 = 0 ∨ x_146 = 1) ∧ zpt g hp_147 r_145 [5] 46 (.int x_146) fun hp_152 =>
  P_242 hp_152 nx_148)) ∧
  (∃ P_167 : (Option Nat) → zHp → Nat → Prop, (∀ (r_153 : Option Nat) (hp_154 : zHp) (nx_155 : Nat), P_167 r_153 hp_154 nx_155 →
  P_168 r_153 (0 : Int32) hp_154 nx_155) ∧
  (∃ P_155 : (Option Nat) → zHp → Nat → Prop, (∀ (r_156 : Option Nat) (hp_157 : zHp) (nx_158 : Nat), P_155 r_156 hp_157 nx_158 →
  (zo hp_157 (some h0) [5] fun a_162 ci_163 fs_164 => zMt l g yX5_word cX5_word 1 (some .int) d 0 0 (.ref a_162 :: []) hp_157 nx_158 (zQi g fun x_161 hp_159 nx_160 =>
  ((x_161 = (-1 : Int32) →
  P_168 r_156 (1 : Int32) hp_159 nx_160) ∧
  (¬ x_161 = (-1 : Int32) →
  P_167 r_156 hp_159 nx_160))))) ∧
  (((x_140 - x_144) = (1 : Int32) →
  (zgI hp_134 (some h0) [5] 40 fun x_168 =>
  (zo hp_134 (some h0) [5] fun a_172 ci_173 fs_174 => zMt l g yX5_byteAt cX5_byteAt 2 (some .int) d 0 0 (.ref a_172 :: [.int x_168]) hp_134 nx_135 (zQi g fun x_171 hp_169 nx_170 =>
  ((x_171 ≤ (120 : Int32) →
  P_167 (some h0) hp_169 nx_170) ∧
  (¬ x_171 ≤ (120 : Int32) →
  P_155 (some h0) hp_169 nx_170)))))) ∧
  (¬ (x_140 - x_144) = (1 : Int32) →
  P_155 (some h0) hp_134 nx_135)))))))) ∧
  (¬ x_136 = 0 →
  (zgI hp_134 (some h0) [5] 39 fun x_178 =>
  (zpt g hp_134 (some h0) [5] 39 (.int (x_178 + (1 : Int32))) fun hp_182 =>
  (∃ k_183, k_183 < n_126 ∧ I_97 k_183 hp_182 nx_135))))))))))))))))))))))))))))))))))))))) ∧
  (¬ x_4 = 0 →
  (Post hp nx))))
set_option maxHeartbeats 40000000 in
theorem met_X5_next {l : Launch} {g : zG} {d : Nat} {h0 : Nat} {hp : zHp} {nx : Nat} {Post : zHp → Nat → Prop} (hw : wp_X5_next l g d h0 hp nx Post) : zMt l g yX5_next cX5_next 1 none (d + 1) 0 0 [.ref h0] hp nx (zQv g Post) := by
  refine z_start (by decide) (Nat.le_of_ble_eq_true rfl) ?_
  intro p e s m below meth c hk hr hin hH hz ls hl
  have hx := hk.1.1
  have hb := hk.1.2.1
  have hown := hk.1.2.2.2.1
  have hts := hk.1.2.2.2.2
  have hS : va_S (zAd g) s.heap s.heap [] := va_S.rf
  have hl : lv_has ls 1 [(0, va_rf (some h0))] := hl
  unfold wp_X5_next at hw
  refine zr_aload_n (r := some h0) hx hb dX5_next_0 rfl (lv_at hl 0 rfl) ?_
  obtain ⟨a_1, ci_2, fs_3, x_4, er, he, hc, hv, hw⟩ := zgI_e hw
  refine zw_get hk hH er he hv (fk_X5_357 hc) dX5_next_1 ?_
  refine lv_if_eq (tgt := 8) hx hb dX5_next_4 (by decide) (fun hc => ?_) (fun hc => ?_)
  · have hw := hw.1 hc
    obtain ⟨I_8, ⟨n_201, hI⟩, hB_8⟩ := hw
    have hL_8 : ∀ (n_7 : Nat) (hp_5 : zHp) (nx_6 : Nat) (H : Heap) (locs : List Loc) (ls : Array Slot), I_8 n_7 hp_5 nx_6 → lv_has ls 1 [(0, va_rf (some h0))] → zHd g hp_5 H → H.size = nx_6 → va_S (zAd g) s.heap H locs → W p l e (zrm (d + 1) 0 0) s m ([.ref h0] : List Value).toArray below meth c H locs 0 0 (MQ below (zQv g Post) ([.ref h0] : List Value).toArray s 0 0 (zAd g)) (F0 m 8 ls []) := by
      intro n_7
      induction n_7 using Nat.strongRecOn with
      | _ n_7 ih_8 =>
        intro hp_5 nx_6 H locs ls hw hl hH hz hS
        have hw := hB_8 n_7 hp_5 nx_6 hw
        refine zr_aload_n (r := some h0) hx hb dX5_next_8 rfl (lv_at hl 0 rfl) ?_
        refine zr_aload_n (r := some h0) hx hb dX5_next_9 rfl (lv_at hl 0 rfl) ?_
        obtain ⟨a_8, ci_9, fs_10, x_11, er, he, hc, hv, hw⟩ := zgI_e hw
        refine zw_get hk hH er he hv (fk_X5_351 hc) dX5_next_10 ?_
        obtain ⟨a_198, ci_199, fs_200, er, he, hc, hw⟩ := zo_e hw
        obtain rfl := List.mem_singleton.mp hc
        refine zr_calli (zw_runV (As := [.int x_11]) hk hH hz hS hl.1 er hw (cwV 1 hts (lw_V q3086 q3088 qs95 q162 q3089) rfl rfl rfl (by decide +kernel) (z_room (Nat.le_of_ble_eq_true rfl))) he rfl rfl rfl (Nat.le_of_ble_eq_true rfl) dX5_next_13 ⟨Nat.le_of_ble_eq_true rfl, Nat.le_of_ble_eq_true rfl⟩) hS (fun x_14 hp_12 nx_13 hw H locs hH hz hS => ?_)
        refine lv_bipush (v := (32 : Int32)) hx hb dX5_next_16 (by decide) ?_
        obtain ⟨P_34, hP_34, hw⟩ := hw
        have hJ_34 : ∀ (hp_15 : zHp) (nx_16 : Nat) (H : Heap) (locs : List Loc) (ls : Array Slot), P_34 hp_15 nx_16 → lv_has ls 1 [(0, va_rf (some h0))] → zHd g hp_15 H → H.size = nx_16 → va_S (zAd g) s.heap H locs → W p l e (zrm (d + 1) 0 0) s m ([.ref h0] : List Value).toArray below meth c H locs 0 0 (MQ below (zQv g Post) ([.ref h0] : List Value).toArray s 0 0 (zAd g)) (F0 m 34 ls []) := by
          intro hp_15 nx_16 H locs ls hw hl hH hz hS
          have hw := hP_34 hp_15 nx_16 hw
          refine zr_aload_n (r := some h0) hx hb dX5_next_34 rfl (lv_at hl 0 rfl) ?_
          refine lv_dup hx hb dX5_next_35 (z_cat _) ?_
          obtain ⟨a_17, ci_18, fs_19, x_20, er, he, hc, hv, hw⟩ := zgI_e hw
          refine zw_get hk hH er he hv (fk_X5_351 hc) dX5_next_36 ?_
          refine lv_iconst (v := (1 : Int32)) hx hb dX5_next_39 (by decide) ?_
          refine lv_iadd hx hb dX5_next_40 ?_
          obtain ⟨a_21, ci_22, fs_23, hp_24, er, he, hc, hA, hkl, eh, hw⟩ := zpt_e hw
          refine zw_put hk hH hz hS er he hA hkl eh (fp_X5_351 hc) rfl rfl dX5_next_41 (fun H locs hH hz hS => ?_)
          refine lv_goto (tgt := 8) hx hb dX5_next_44 (by decide) ?_
          obtain ⟨k_25, hlt, hw⟩ := hw
          exact ih_8 k_25 hlt hp_24 nx_16 _ _ _ hw hl hH hz hS
        refine lv_icmp_eq (tgt := 34) hx hb dX5_next_18 (by decide) (fun hc => ?_) (fun hc => ?_)
        · have hw := hw.1 hc
          exact hJ_34 hp_12 nx_13 _ _ _ hw hl hH hz hS
        · have hw := hw.2 hc
          refine zr_aload_n (r := some h0) hx hb dX5_next_21 rfl (lv_at hl 0 rfl) ?_
          refine zr_aload_n (r := some h0) hx hb dX5_next_22 rfl (lv_at hl 0 rfl) ?_
          obtain ⟨a_26, ci_27, fs_28, x_29, er, he, hc, hv, hw⟩ := zgI_e hw
          refine zw_get hk hH er he hv (fk_X5_351 hc) dX5_next_23 ?_
          obtain ⟨a_195, ci_196, fs_197, er, he, hc, hw⟩ := zo_e hw
          obtain rfl := List.mem_singleton.mp hc
          refine zr_calli (zw_runV (As := [.int x_29]) hk hH hz hS hl.1 er hw (cwV 1 hts (lw_V q3086 q3088 qs95 q162 q3089) rfl rfl rfl (by decide +kernel) (z_room (Nat.le_of_ble_eq_true rfl))) he rfl rfl rfl (Nat.le_of_ble_eq_true rfl) dX5_next_26 ⟨Nat.le_of_ble_eq_true rfl, Nat.le_of_ble_eq_true rfl⟩) hS (fun x_32 hp_30 nx_31 hw H locs hH hz hS => ?_)
          refine lv_bipush (v := (10 : Int32)) hx hb dX5_next_29 (by decide) ?_
          refine lv_icmp_ne (tgt := 47) hx hb dX5_next_31 (by decide) (fun hc => ?_) (fun hc => ?_)
          · have hw := hw.2 hc
            refine zr_aload_n (r := some h0) hx hb dX5_next_47 rfl (lv_at hl 0 rfl) ?_
            refine zr_aload_n (r := some h0) hx hb dX5_next_48 rfl (lv_at hl 0 rfl) ?_
            obtain ⟨a_33, ci_34, fs_35, x_36, er, he, hc, hv, hw⟩ := zgI_e hw
            refine zw_get hk hH er he hv (fk_X5_351 hc) dX5_next_49 ?_
            obtain ⟨a_37, ci_38, fs_39, hp_40, er, he, hc, hA, hkl, eh, hw⟩ := zpt_e hw
            refine zw_put hk hH hz hS er he hA hkl eh (fp_X5_361 hc) rfl rfl dX5_next_52 (fun H locs hH hz hS => ?_)
            refine zr_aload_n (r := some h0) hx hb dX5_next_55 rfl (lv_at hl 0 rfl) ?_
            obtain ⟨a_41, ci_42, fs_43, x_44, er, he, hc, hv, hw⟩ := zgI_e hw
            refine zw_get hk hH er he hv (fk_X5_351 hc) dX5_next_56 ?_
            refine zr_aload_n (r := some h0) hx hb dX5_next_59 rfl (lv_at hl 0 rfl) ?_
            obtain ⟨a_45, ci_46, fs_47, x_48, er, he, hc, hv, hw⟩ := zgI_e hw
            refine zw_get hk hH er he hv (fk_X5_348 hc) dX5_next_60 ?_
            obtain ⟨P_242, hP_242, hw⟩ := hw
            have hJ_242 : ∀ (hp_49 : zHp) (nx_50 : Nat) (H : Heap) (locs : List Loc) (ls : Array Slot), P_242 hp_49 nx_50 → lv_has ls 1 [(0, va_rf (some h0))] → zHd g hp_49 H → H.size = nx_50 → va_S (zAd g) s.heap H locs → W p l e (zrm (d + 1) 0 0) s m ([.ref h0] : List Value).toArray below meth c H locs 0 0 (MQ below (zQv g Post) ([.ref h0] : List Value).toArray s 0 0 (zAd g)) (F0 m 242 ls []) := by
              intro hp_49 nx_50 H locs ls hw hl hH hz hS
              have hw := hP_242 hp_49 nx_50 hw
              exact zr_vret hk hr hH hz hS hw (Nat.le_of_ble_eq_true rfl) (Nat.le_of_ble_eq_true rfl) dX5_next_242
            refine lv_icmp_ne (tgt := 74) hx hb dX5_next_63 (by decide) (fun hc => ?_) (fun hc => ?_)
            · have hw := hw.2 hc
              refine zr_aload_n (r := some h0) hx hb dX5_next_74 rfl (lv_at hl 0 rfl) ?_
              refine zr_aload_n (r := some h0) hx hb dX5_next_75 rfl (lv_at hl 0 rfl) ?_
              obtain ⟨a_51, ci_52, fs_53, x_54, er, he, hc, hv, hw⟩ := zgI_e hw
              refine zw_get hk hH er he hv (fk_X5_351 hc) dX5_next_76 ?_
              obtain ⟨a_188, ci_189, fs_190, er, he, hc, hw⟩ := zo_e hw
              obtain rfl := List.mem_singleton.mp hc
              refine zr_calli (zw_runV (As := [.int x_54]) hk hH hz hS hl.1 er hw (cwV 1 hts (lw_V q3086 q3088 qs95 q162 q3089) rfl rfl rfl (by decide +kernel) (z_room (Nat.le_of_ble_eq_true rfl))) he rfl rfl rfl (Nat.le_of_ble_eq_true rfl) dX5_next_79 ⟨Nat.le_of_ble_eq_true rfl, Nat.le_of_ble_eq_true rfl⟩) hS (fun x_57 hp_55 nx_56 hw H locs hH hz hS => ?_)
              refine lv_bipush (v := (97 : Int32)) hx hb dX5_next_82 (by decide) ?_
              refine lv_bipush (v := (122 : Int32)) hx hb dX5_next_84 (by decide) ?_
              refine zr_calli (zr_runS (As := [.int x_57, .int (97 : Int32), .int (122 : Int32)]) hk hH hz hS hl.1 hw (va_cwS 3 hts (lw_S q2911 q2912 q162 q2913) rfl rfl rfl (by decide +kernel) (z_room (Nat.le_of_ble_eq_true rfl))) rfl rfl (Nat.le_of_ble_eq_true rfl) dX5_next_86 ⟨Nat.le_of_ble_eq_true rfl, Nat.le_of_ble_eq_true rfl⟩) hS (fun x_60 hp_58 nx_59 hw H locs hH hz hS => ?_)
              refine lv_if_eq (tgt := 174) hx hb dX5_next_89 (by decide) (fun hc => ?_) (fun hc => ?_)
              · have hw := hw.1 hc
                refine zr_aload_n (r := some h0) hx hb dX5_next_174 rfl (lv_at hl 0 rfl) ?_
                obtain ⟨a_117, ci_118, fs_119, er, he, hc, hw⟩ := zo_e hw
                obtain rfl := List.mem_singleton.mp hc
                refine zr_calli (zw_runV (As := []) hk hH hz hS hl.1 er hw (cwV 0 hts (lw_V q3108 q3110 qs98 q162 q3111) rfl rfl rfl (by decide +kernel) (z_room (Nat.le_of_ble_eq_true rfl))) he rfl rfl rfl (Nat.le_of_ble_eq_true rfl) dX5_next_175 ⟨Nat.le_of_ble_eq_true rfl, Nat.le_of_ble_eq_true rfl⟩) hS (fun x_63 hp_61 nx_62 hw H locs hH hz hS => ?_)
                refine lv_if_eq (tgt := 193) hx hb dX5_next_178 (by decide) (fun hc => ?_) (fun hc => ?_)
                · have hw := hw.1 hc
                  refine zr_aload_n (r := some h0) hx hb dX5_next_193 rfl (lv_at hl 0 rfl) ?_
                  refine lv_iconst (v := (3 : Int32)) hx hb dX5_next_194 (by decide) ?_
                  obtain ⟨a_64, ci_65, fs_66, hp_67, er, he, hc, hA, hkl, eh, hw⟩ := zpt_e hw
                  refine zw_put hk hH hz hS er he hA hkl eh (fp_X5_364 hc) rfl rfl dX5_next_195 (fun H locs hH hz hS => ?_)
                  refine zr_aload_n (r := some h0) hx hb dX5_next_198 rfl (lv_at hl 0 rfl) ?_
                  refine zr_aload_n (r := some h0) hx hb dX5_next_199 rfl (lv_at hl 0 rfl) ?_
                  refine zr_aload_n (r := some h0) hx hb dX5_next_200 rfl (lv_at hl 0 rfl) ?_
                  obtain ⟨a_68, ci_69, fs_70, x_71, er, he, hc, hv, hw⟩ := zgI_e hw
                  refine zw_get hk hH er he hv (fk_X5_351 hc) dX5_next_201 ?_
                  obtain ⟨a_105, ci_106, fs_107, er, he, hc, hw⟩ := zo_e hw
                  obtain rfl := List.mem_singleton.mp hc
                  refine zr_calli (zw_runV (As := [.int x_71]) hk hH hz hS hl.1 er hw (cwV 1 hts (lw_V q3086 q3088 qs95 q162 q3089) rfl rfl rfl (by decide +kernel) (z_room (Nat.le_of_ble_eq_true rfl))) he rfl rfl rfl (by simp only [List.map_cons, List.map_nil, z_cat]; exact Nat.le_of_ble_eq_true rfl) dX5_next_204 ⟨Nat.le_of_ble_eq_true rfl, Nat.le_of_ble_eq_true rfl⟩) hS (fun x_74 hp_72 nx_73 hw H locs hH hz hS => ?_)
                  obtain ⟨a_75, ci_76, fs_77, hp_78, er, he, hc, hA, hkl, eh, hw⟩ := zpt_e hw
                  refine zw_put hk hH hz hS er he hA hkl eh (fp_X5_378 hc) rfl rfl dX5_next_207 (fun H locs hH hz hS => ?_)
                  refine zr_aload_n (r := some h0) hx hb dX5_next_210 rfl (lv_at hl 0 rfl) ?_
                  refine lv_dup hx hb dX5_next_211 (z_cat _) ?_
                  obtain ⟨a_79, ci_80, fs_81, x_82, er, he, hc, hv, hw⟩ := zgI_e hw
                  refine zw_get hk hH er he hv (fk_X5_351 hc) dX5_next_212 ?_
                  refine lv_iconst (v := (1 : Int32)) hx hb dX5_next_215 (by decide) ?_
                  refine lv_iadd hx hb dX5_next_216 ?_
                  obtain ⟨a_83, ci_84, fs_85, hp_86, er, he, hc, hA, hkl, eh, hw⟩ := zpt_e hw
                  refine zw_put hk hH hz hS er he hA hkl eh (fp_X5_351 hc) rfl rfl dX5_next_217 (fun H locs hH hz hS => ?_)
                  refine zr_aload_n (r := some h0) hx hb dX5_next_220 rfl (lv_at hl 0 rfl) ?_
                  refine zw_ldcSw hk 17 rfl dX5_next_221 ?_
                  refine zr_aload_n (r := some h0) hx hb dX5_next_224 rfl (lv_at hl 0 rfl) ?_
                  obtain ⟨a_87, ci_88, fs_89, x_90, er, he, hc, hv, hw⟩ := zgI_e hw
                  refine zw_get hk hH er he hv (fk_X5_378 hc) dX5_next_225 ?_
                  obtain ⟨a_102, ci_103, fs_104, er, he, hc, hw⟩ := zo_e hw
                  obtain rfl := List.mem_singleton.mp hc
                  refine zr_calli (zw_runV (As := [.int x_90]) hk hH hz hS hl.1 er hw (cwV 1 hts (lw_V q3118 q1474 q1475 q140 q1476) rfl rfl rfl (by decide +kernel) (z_room (Nat.le_of_ble_eq_true rfl))) he rfl rfl rfl (by simp only [List.map_cons, List.map_nil, z_cat]; exact Nat.le_of_ble_eq_true rfl) dX5_next_228 ⟨Nat.le_of_ble_eq_true rfl, Nat.le_of_ble_eq_true rfl⟩) hS (fun x_93 hp_91 nx_92 hw H locs hH hz hS => ?_)
                  obtain ⟨P_239, hP_239, hw⟩ := hw
                  have hJ_239 : ∀ (r_94 : Option Nat) (x_95 : Int32) (hp_96 : zHp) (nx_97 : Nat) (H : Heap) (locs : List Loc) (ls : Array Slot), P_239 r_94 x_95 hp_96 nx_97 → lv_has ls 1 [(0, va_rf (some h0))] → zHd g hp_96 H → H.size = nx_97 → va_S (zAd g) s.heap H locs → W p l e (zrm (d + 1) 0 0) s m ([.ref h0] : List Value).toArray below meth c H locs 0 0 (MQ below (zQv g Post) ([.ref h0] : List Value).toArray s 0 0 (zAd g)) (F0 m 239 ls [.int x_95, va_rf r_94]) := by
                    intro r_94 x_95 hp_96 nx_97 H locs ls hw hl hH hz hS
                    have hw := hP_239 r_94 x_95 hp_96 nx_97 hw
                    obtain ⟨hbo, hw⟩ := hw
                    obtain ⟨a_98, ci_99, fs_100, hp_101, er, he, hc, hA, hkl, eh, hw⟩ := zpt_e hw
                    refine zw_put hk hH hz hS er he hA hkl eh (fp_X5_357 hc) (z_nb hbo) (z_fb hbo) dX5_next_239 (fun H locs hH hz hS => ?_)
                    exact hJ_242 hp_101 nx_97 _ _ _ hw hl hH hz hS
                  refine lv_if_ge (tgt := 238) hx hb dX5_next_231 (by decide) (fun hc => ?_) (fun hc => ?_)
                  · have hw := hw.1 hc
                    refine lv_iconst (v := (0 : Int32)) hx hb dX5_next_238 (by decide) ?_
                    exact hJ_239 (some h0) (0 : Int32) hp_91 nx_92 _ _ _ hw hl hH hz hS
                  · have hw := hw.2 hc
                    refine lv_iconst (v := (1 : Int32)) hx hb dX5_next_234 (by decide) ?_
                    refine lv_goto (tgt := 239) hx hb dX5_next_235 (by decide) ?_
                    exact hJ_239 (some h0) (1 : Int32) hp_91 nx_92 _ _ _ hw hl hH hz hS
                · have hw := hw.2 hc
                  refine zr_aload_n (r := some h0) hx hb dX5_next_181 rfl (lv_at hl 0 rfl) ?_
                  refine lv_iconst (v := (2 : Int32)) hx hb dX5_next_182 (by decide) ?_
                  obtain ⟨a_108, ci_109, fs_110, hp_111, er, he, hc, hA, hkl, eh, hw⟩ := zpt_e hw
                  refine zw_put hk hH hz hS er he hA hkl eh (fp_X5_364 hc) rfl rfl dX5_next_183 (fun H locs hH hz hS => ?_)
                  refine zr_aload_n (r := some h0) hx hb dX5_next_186 rfl (lv_at hl 0 rfl) ?_
                  obtain ⟨a_114, ci_115, fs_116, er, he, hc, hw⟩ := zo_e hw
                  obtain rfl := List.mem_singleton.mp hc
                  refine zr_callv (zw_runV (As := []) hk hH hz hS hl.1 er hw (cwV 0 hts (lw_V q3112 q3114 qs99 q162 q3115) rfl rfl rfl (by decide +kernel) (z_room (Nat.le_of_ble_eq_true rfl))) he rfl rfl rfl (Nat.le_of_ble_eq_true rfl) dX5_next_187 ⟨Nat.le_of_ble_eq_true rfl, Nat.le_of_ble_eq_true rfl⟩) hS (fun hp_112 nx_113 hw H locs hH hz hS => ?_)
                  refine lv_goto (tgt := 242) hx hb dX5_next_190 (by decide) ?_
                  exact hJ_242 hp_112 nx_113 _ _ _ hw hl hH hz hS
              · have hw := hw.2 hc
                refine zr_aload_n (r := some h0) hx hb dX5_next_92 rfl (lv_at hl 0 rfl) ?_
                refine lv_iconst (v := (1 : Int32)) hx hb dX5_next_93 (by decide) ?_
                obtain ⟨a_120, ci_121, fs_122, hp_123, er, he, hc, hA, hkl, eh, hw⟩ := zpt_e hw
                refine zw_put hk hH hz hS er he hA hkl eh (fp_X5_364 hc) rfl rfl dX5_next_94 (fun H locs hH hz hS => ?_)
                obtain ⟨I_97, ⟨n_187, hI⟩, hB_97⟩ := hw
                have hL_97 : ∀ (n_126 : Nat) (hp_124 : zHp) (nx_125 : Nat) (H : Heap) (locs : List Loc) (ls : Array Slot), I_97 n_126 hp_124 nx_125 → lv_has ls 1 [(0, va_rf (some h0))] → zHd g hp_124 H → H.size = nx_125 → va_S (zAd g) s.heap H locs → W p l e (zrm (d + 1) 0 0) s m ([.ref h0] : List Value).toArray below meth c H locs 0 0 (MQ below (zQv g Post) ([.ref h0] : List Value).toArray s 0 0 (zAd g)) (F0 m 97 ls []) := by
                  intro n_126
                  induction n_126 using Nat.strongRecOn with
                  | _ n_126 ih_97 =>
                    intro hp_124 nx_125 H locs ls hw hl hH hz hS
                    have hw := hB_97 n_126 hp_124 nx_125 hw
                    refine zr_aload_n (r := some h0) hx hb dX5_next_97 rfl (lv_at hl 0 rfl) ?_
                    refine zr_aload_n (r := some h0) hx hb dX5_next_98 rfl (lv_at hl 0 rfl) ?_
                    obtain ⟨a_127, ci_128, fs_129, x_130, er, he, hc, hv, hw⟩ := zgI_e hw
                    refine zw_get hk hH er he hv (fk_X5_351 hc) dX5_next_99 ?_
                    obtain ⟨a_184, ci_185, fs_186, er, he, hc, hw⟩ := zo_e hw
                    obtain rfl := List.mem_singleton.mp hc
                    refine zr_calli (zw_runV (As := [.int x_130]) hk hH hz hS hl.1 er hw (cwV 1 hts (lw_V q3086 q3088 qs95 q162 q3089) rfl rfl rfl (by decide +kernel) (z_room (Nat.le_of_ble_eq_true rfl))) he rfl rfl rfl (Nat.le_of_ble_eq_true rfl) dX5_next_102 ⟨Nat.le_of_ble_eq_true rfl, Nat.le_of_ble_eq_true rfl⟩) hS (fun x_133 hp_131 nx_132 hw H locs hH hz hS => ?_)
                    refine lv_bipush (v := (97 : Int32)) hx hb dX5_next_105 (by decide) ?_
                    refine lv_bipush (v := (122 : Int32)) hx hb dX5_next_107 (by decide) ?_
                    refine zr_calli (zr_runS (As := [.int x_133, .int (97 : Int32), .int (122 : Int32)]) hk hH hz hS hl.1 hw (va_cwS 3 hts (lw_S q2911 q2912 q162 q2913) rfl rfl rfl (by decide +kernel) (z_room (Nat.le_of_ble_eq_true rfl))) rfl rfl (Nat.le_of_ble_eq_true rfl) dX5_next_109 ⟨Nat.le_of_ble_eq_true rfl, Nat.le_of_ble_eq_true rfl⟩) hS (fun x_136 hp_134 nx_135 hw H locs hH hz hS => ?_)
                    refine lv_if_eq (tgt := 128) hx hb dX5_next_112 (by decide) (fun hc => ?_) (fun hc => ?_)
                    · have hw := hw.1 hc
                      refine zr_aload_n (r := some h0) hx hb dX5_next_128 rfl (lv_at hl 0 rfl) ?_
                      refine zr_aload_n (r := some h0) hx hb dX5_next_129 rfl (lv_at hl 0 rfl) ?_
                      obtain ⟨a_137, ci_138, fs_139, x_140, er, he, hc, hv, hw⟩ := zgI_e hw
                      refine zw_get hk hH er he hv (fk_X5_351 hc) dX5_next_130 ?_
                      refine zr_aload_n (r := some h0) hx hb dX5_next_133 rfl (lv_at hl 0 rfl) ?_
                      obtain ⟨a_141, ci_142, fs_143, x_144, er, he, hc, hv, hw⟩ := zgI_e hw
                      refine zw_get hk hH er he hv (fk_X5_361 hc) dX5_next_134 ?_
                      refine lv_isub hx hb dX5_next_137 ?_
                      refine lv_iconst (v := (1 : Int32)) hx hb dX5_next_138 (by decide) ?_
                      obtain ⟨P_168, hP_168, hw⟩ := hw
                      have hJ_168 : ∀ (r_145 : Option Nat) (x_146 : Int32) (hp_147 : zHp) (nx_148 : Nat) (H : Heap) (locs : List Loc) (ls : Array Slot), P_168 r_145 x_146 hp_147 nx_148 → lv_has ls 1 [(0, va_rf (some h0))] → zHd g hp_147 H → H.size = nx_148 → va_S (zAd g) s.heap H locs → W p l e (zrm (d + 1) 0 0) s m ([.ref h0] : List Value).toArray below meth c H locs 0 0 (MQ below (zQv g Post) ([.ref h0] : List Value).toArray s 0 0 (zAd g)) (F0 m 168 ls [.int x_146, va_rf r_145]) := by
                        intro r_145 x_146 hp_147 nx_148 H locs ls hw hl hH hz hS
                        have hw := hP_168 r_145 x_146 hp_147 nx_148 hw
                        obtain ⟨hbo, hw⟩ := hw
                        obtain ⟨a_149, ci_150, fs_151, hp_152, er, he, hc, hA, hkl, eh, hw⟩ := zpt_e hw
                        refine zw_put hk hH hz hS er he hA hkl eh (fp_X5_357 hc) (z_nb hbo) (z_fb hbo) dX5_next_168 (fun H locs hH hz hS => ?_)
                        refine lv_goto (tgt := 242) hx hb dX5_next_171 (by decide) ?_
                        exact hJ_242 hp_152 nx_148 _ _ _ hw hl hH hz hS
                      obtain ⟨P_167, hP_167, hw⟩ := hw
                      have hJ_167 : ∀ (r_153 : Option Nat) (hp_154 : zHp) (nx_155 : Nat) (H : Heap) (locs : List Loc) (ls : Array Slot), P_167 r_153 hp_154 nx_155 → lv_has ls 1 [(0, va_rf (some h0))] → zHd g hp_154 H → H.size = nx_155 → va_S (zAd g) s.heap H locs → W p l e (zrm (d + 1) 0 0) s m ([.ref h0] : List Value).toArray below meth c H locs 0 0 (MQ below (zQv g Post) ([.ref h0] : List Value).toArray s 0 0 (zAd g)) (F0 m 167 ls [va_rf r_153]) := by
                        intro r_153 hp_154 nx_155 H locs ls hw hl hH hz hS
                        have hw := hP_167 r_153 hp_154 nx_155 hw
                        refine lv_iconst (v := (0 : Int32)) hx hb dX5_next_167 (by decide) ?_
                        exact hJ_168 r_153 (0 : Int32) hp_154 nx_155 _ _ _ hw hl hH hz hS
                      obtain ⟨P_155, hP_155, hw⟩ := hw
                      have hJ_155 : ∀ (r_156 : Option Nat) (hp_157 : zHp) (nx_158 : Nat) (H : Heap) (locs : List Loc) (ls : Array Slot), P_155 r_156 hp_157 nx_158 → lv_has ls 1 [(0, va_rf (some h0))] → zHd g hp_157 H → H.size = nx_158 → va_S (zAd g) s.heap H locs → W p l e (zrm (d + 1) 0 0) s m ([.ref h0] : List Value).toArray below meth c H locs 0 0 (MQ below (zQv g Post) ([.ref h0] : List Value).toArray s 0 0 (zAd g)) (F0 m 155 ls [va_rf r_156]) := by
                        intro r_156 hp_157 nx_158 H locs ls hw hl hH hz hS
                        have hw := hP_155 r_156 hp_157 nx_158 hw
                        refine zr_aload_n (r := some h0) hx hb dX5_next_155 rfl (lv_at hl 0 rfl) ?_
                        obtain ⟨a_162, ci_163, fs_164, er, he, hc, hw⟩ := zo_e hw
                        obtain rfl := List.mem_singleton.mp hc
                        refine zr_calli (zw_runV (As := []) hk hH hz hS hl.1 er hw (cwV 0 hts (lw_V q3090 q3092 qs96 q162 q3093) rfl rfl rfl (by decide +kernel) (z_room (Nat.le_of_ble_eq_true rfl))) he rfl rfl rfl (by simp only [List.map_cons, List.map_nil, z_cat]; exact Nat.le_of_ble_eq_true rfl) dX5_next_156 ⟨Nat.le_of_ble_eq_true rfl, Nat.le_of_ble_eq_true rfl⟩) hS (fun x_161 hp_159 nx_160 hw H locs hH hz hS => ?_)
                        refine lv_iconst (v := (-1 : Int32)) hx hb dX5_next_159 (by decide) ?_
                        refine lv_icmp_ne (tgt := 167) hx hb dX5_next_160 (by decide) (fun hc => ?_) (fun hc => ?_)
                        · have hw := hw.2 hc
                          exact hJ_167 r_156 hp_159 nx_160 _ _ _ hw hl hH hz hS
                        · have hw := hw.1 hc
                          refine lv_iconst (v := (1 : Int32)) hx hb dX5_next_163 (by decide) ?_
                          refine lv_goto (tgt := 168) hx hb dX5_next_164 (by decide) ?_
                          exact hJ_168 r_156 (1 : Int32) hp_159 nx_160 _ _ _ hw hl hH hz hS
                      refine lv_icmp_ne (tgt := 155) hx hb dX5_next_139 (by decide) (fun hc => ?_) (fun hc => ?_)
                      · have hw := hw.2 hc
                        exact hJ_155 (some h0) hp_134 nx_135 _ _ _ hw hl hH hz hS
                      · have hw := hw.1 hc
                        refine zr_aload_n (r := some h0) hx hb dX5_next_142 rfl (lv_at hl 0 rfl) ?_
                        refine zr_aload_n (r := some h0) hx hb dX5_next_143 rfl (lv_at hl 0 rfl) ?_
                        obtain ⟨a_165, ci_166, fs_167, x_168, er, he, hc, hv, hw⟩ := zgI_e hw
                        refine zw_get hk hH er he hv (fk_X5_361 hc) dX5_next_144 ?_
                        obtain ⟨a_172, ci_173, fs_174, er, he, hc, hw⟩ := zo_e hw
                        obtain rfl := List.mem_singleton.mp hc
                        refine zr_calli (zw_runV (As := [.int x_168]) hk hH hz hS hl.1 er hw (cwV 1 hts (lw_V q3086 q3088 qs95 q162 q3089) rfl rfl rfl (by decide +kernel) (z_room (Nat.le_of_ble_eq_true rfl))) he rfl rfl rfl (by simp only [List.map_cons, List.map_nil, z_cat]; exact Nat.le_of_ble_eq_true rfl) dX5_next_147 ⟨Nat.le_of_ble_eq_true rfl, Nat.le_of_ble_eq_true rfl⟩) hS (fun x_171 hp_169 nx_170 hw H locs hH hz hS => ?_)
                        refine lv_bipush (v := (120 : Int32)) hx hb dX5_next_150 (by decide) ?_
                        refine lv_icmp_le (tgt := 167) hx hb dX5_next_152 (by decide) (fun hc => ?_) (fun hc => ?_)
                        · have hw := hw.1 hc
                          exact hJ_167 (some h0) hp_169 nx_170 _ _ _ hw hl hH hz hS
                        · have hw := hw.2 hc
                          exact hJ_155 (some h0) hp_169 nx_170 _ _ _ hw hl hH hz hS
                    · have hw := hw.2 hc
                      refine zr_aload_n (r := some h0) hx hb dX5_next_115 rfl (lv_at hl 0 rfl) ?_
                      refine lv_dup hx hb dX5_next_116 (z_cat _) ?_
                      obtain ⟨a_175, ci_176, fs_177, x_178, er, he, hc, hv, hw⟩ := zgI_e hw
                      refine zw_get hk hH er he hv (fk_X5_351 hc) dX5_next_117 ?_
                      refine lv_iconst (v := (1 : Int32)) hx hb dX5_next_120 (by decide) ?_
                      refine lv_iadd hx hb dX5_next_121 ?_
                      obtain ⟨a_179, ci_180, fs_181, hp_182, er, he, hc, hA, hkl, eh, hw⟩ := zpt_e hw
                      refine zw_put hk hH hz hS er he hA hkl eh (fp_X5_351 hc) rfl rfl dX5_next_122 (fun H locs hH hz hS => ?_)
                      refine lv_goto (tgt := 97) hx hb dX5_next_125 (by decide) ?_
                      obtain ⟨k_183, hlt, hw⟩ := hw
                      exact ih_97 k_183 hlt hp_182 nx_135 _ _ _ hw hl hH hz hS
                exact hL_97 n_187 hp_123 nx_59 _ _ _ hI hl hH hz hS
            · have hw := hw.1 hc
              refine zr_aload_n (r := some h0) hx hb dX5_next_66 rfl (lv_at hl 0 rfl) ?_
              refine lv_iconst (v := (0 : Int32)) hx hb dX5_next_67 (by decide) ?_
              obtain ⟨a_191, ci_192, fs_193, hp_194, er, he, hc, hA, hkl, eh, hw⟩ := zpt_e hw
              refine zw_put hk hH hz hS er he hA hkl eh (fp_X5_364 hc) rfl rfl dX5_next_68 (fun H locs hH hz hS => ?_)
              refine lv_goto (tgt := 242) hx hb dX5_next_71 (by decide) ?_
              exact hJ_242 hp_194 nx_31 _ _ _ hw hl hH hz hS
          · have hw := hw.1 hc
            exact hJ_34 hp_30 nx_31 _ _ _ hw hl hH hz hS
    exact hL_8 n_201 hp nx _ _ _ hI hl hH hz hS
  · have hw := hw.2 hc
    exact zr_vret hk hr hH hz hS hw (Nat.le_of_ble_eq_true rfl) (Nat.le_of_ble_eq_true rfl) dX5_next_7
def wp_X5_byteAt (l : Launch) (g : zG) (d : Nat) (h0 : Nat) (x1 : Int32) (hp : zHp) (nx : Nat) (Post : Int32 → zHp → Nat → Prop) : Prop :=
  (zgI hp (some h0) [5] 34 fun x_4 =>
  (∃ P_18 : Int32 → Prop, (∀ (x_5 : Int32), P_18 x_5 →
  (Post x_5 hp nx)) ∧
  ((x_4 ≤ x1 →
  P_18 (-1 : Int32)) ∧
  (¬ x_4 ≤ x1 →
  (zgR hp (some h0) [5] 33 fun r_9 =>
  (zaI (g.2.1 0) hp r_9 fun a_10 n_11 f_12 => vp_in x1 n_11 ∧ ∀ x_13 : Int32, x_13 = f_12 x1.toNatClampNeg →
  P_18 x_13))))))
set_option maxHeartbeats 40000000 in
theorem met_X5_byteAt {l : Launch} {g : zG} {d : Nat} {h0 : Nat} {x1 : Int32} {hp : zHp} {nx : Nat} {Post : Int32 → zHp → Nat → Prop} (hw : wp_X5_byteAt l g d h0 x1 hp nx Post) : zMt l g yX5_byteAt cX5_byteAt 2 (some .int) (d + 1) 0 0 [.ref h0, .int x1] hp nx (zQi g Post) := by
  refine z_start (by decide) (Nat.le_of_ble_eq_true rfl) ?_
  intro p e s m below meth c hk hr hin hH hz ls hl
  have hx := hk.1.1
  have hb := hk.1.2.1
  have hown := hk.1.2.2.2.1
  have hts := hk.1.2.2.2.2
  have hS : va_S (zAd g) s.heap s.heap [] := va_S.rf
  have hl : lv_has ls 2 [(0, va_rf (some h0)), (1, .int x1)] := hl
  unfold wp_X5_byteAt at hw
  refine lv_iload_n hx hb dX5_byteAt_0 rfl (lv_at hl 1 rfl) ?_
  refine zr_aload_n (r := some h0) hx hb dX5_byteAt_1 rfl (lv_at hl 0 rfl) ?_
  obtain ⟨a_1, ci_2, fs_3, x_4, er, he, hc, hv, hw⟩ := zgI_e hw
  refine zw_get hk hH er he hv (fk_X5_348 hc) dX5_byteAt_2 ?_
  obtain ⟨P_18, hP_18, hw⟩ := hw
  have hJ_18 : ∀ (x_5 : Int32) (H : Heap) (locs : List Loc) (ls : Array Slot), P_18 x_5 → lv_has ls 2 [(0, va_rf (some h0)), (1, .int x1)] → zHd g hp H → H.size = nx → va_S (zAd g) s.heap H locs → W p l e (zrm (d + 1) 0 0) s m ([.ref h0, .int x1] : List Value).toArray below meth c H locs 0 0 (MQ below (zQi g Post) ([.ref h0, .int x1] : List Value).toArray s 0 0 (zAd g)) (F0 m 18 ls [.int x_5]) := by
    intro x_5 H locs ls hw hl hH hz hS
    have hw := hP_18 x_5 hw
    exact zr_iret hk hr hH hz hS hw (Nat.le_of_ble_eq_true rfl) (Nat.le_of_ble_eq_true rfl) dX5_byteAt_18
  refine lv_icmp_ge (tgt := 17) hx hb dX5_byteAt_5 (by decide) (fun hc => ?_) (fun hc => ?_)
  · have hw := hw.1 hc
    refine lv_iconst (v := (-1 : Int32)) hx hb dX5_byteAt_17 (by decide) ?_
    exact hJ_18 (-1 : Int32) _ _ _ hw hl hH hz hS
  · have hw := hw.2 hc
    refine zr_aload_n (r := some h0) hx hb dX5_byteAt_8 rfl (lv_at hl 0 rfl) ?_
    obtain ⟨a_6, ci_7, fs_8, r_9, er, he, hc, hv, hw⟩ := zgR_e hw
    refine zw_get hk hH er he hv (fk_X5_102 hc) dX5_byteAt_9 ?_
    refine lv_iload_n hx hb dX5_byteAt_12 rfl (lv_at hl 1 rfl) ?_
    obtain ⟨a_10, n_11, f_12, er, he, hi, hw⟩ := zaI_e hw
    have hw := hw _ rfl
    refine zw_iald hk hH er he hi dX5_byteAt_13 ?_
    generalize f_12 x1.toNatClampNeg = x_13 at hw ⊢
    refine lv_goto (tgt := 18) hx hb dX5_byteAt_14 (by decide) ?_
    exact hJ_18 x_13 _ _ _ hw hl hH hz hS
def wp_X5_word (l : Launch) (g : zG) (d : Nat) (h0 : Nat) (hp : zHp) (nx : Nat) (Post : Int32 → zHp → Nat → Prop) : Prop :=
  (zo hp (some h0) [5] fun a_49 ci_50 fs_51 => zMt l g yX5_isWord cX5_isWord 3 (some .boolean) d 0 0 (.ref a_49 :: [va_rf (some (g.2.2.2.2 9))]) hp nx (zQi g fun x_3 hp_1 nx_2 =>
  (∃ P_115 : Int32 → zHp → Nat → Prop, (∀ (x_4 : Int32) (hp_5 : zHp) (nx_6 : Nat), P_115 x_4 hp_5 nx_6 →
  (Post x_4 hp_5 nx_6)) ∧
  ((x_3 = 0 →
  (zo hp_1 (some h0) [5] fun a_46 ci_47 fs_48 => zMt l g yX5_isWord cX5_isWord 3 (some .boolean) d 0 0 (.ref a_46 :: [va_rf (some (g.2.2.2.2 10))]) hp_1 nx_2 (zQi g fun x_9 hp_7 nx_8 =>
  ((x_9 = 0 →
  (zo hp_7 (some h0) [5] fun a_43 ci_44 fs_45 => zMt l g yX5_isWord cX5_isWord 3 (some .boolean) d 0 0 (.ref a_43 :: [va_rf (some (g.2.2.2.2 11))]) hp_7 nx_8 (zQi g fun x_12 hp_10 nx_11 =>
  ((x_12 = 0 →
  (zo hp_10 (some h0) [5] fun a_40 ci_41 fs_42 => zMt l g yX5_isWord cX5_isWord 3 (some .boolean) d 0 0 (.ref a_40 :: [va_rf (some (g.2.2.2.2 12))]) hp_10 nx_11 (zQi g fun x_15 hp_13 nx_14 =>
  ((x_15 = 0 →
  (zo hp_13 (some h0) [5] fun a_37 ci_38 fs_39 => zMt l g yX5_isWord cX5_isWord 3 (some .boolean) d 0 0 (.ref a_37 :: [va_rf (some (g.2.2.2.2 13))]) hp_13 nx_14 (zQi g fun x_18 hp_16 nx_17 =>
  ((x_18 = 0 →
  (zo hp_16 (some h0) [5] fun a_34 ci_35 fs_36 => zMt l g yX5_isWord cX5_isWord 3 (some .boolean) d 0 0 (.ref a_34 :: [va_rf (some (g.2.2.2.2 14))]) hp_16 nx_17 (zQi g fun x_21 hp_19 nx_20 =>
  ((x_21 = 0 →
  (zo hp_19 (some h0) [5] fun a_31 ci_32 fs_33 => zMt l g yX5_isWord cX5_isWord 3 (some .boolean) d 0 0 (.ref a_31 :: [va_rf (some (g.2.2.2.2 15))]) hp_19 nx_20 (zQi g fun x_24 hp_22 nx_23 =>
  ((x_24 = 0 →
  (zo hp_22 (some h0) [5] fun a_28 ci_29 fs_30 => zMt l g yX5_isWord cX5_isWord 3 (some .boolean) d 0 0 (.ref a_28 :: [va_rf (some (g.2.2.2.2 16))]) hp_22 nx_23 (zQi g fun x_27 hp_25 nx_26 =>
  ((x_27 = 0 →
  P_115 (-1 : Int32) hp_25 nx_26) ∧
  (¬ x_27 = 0 →
  P_115 (7 : Int32) hp_25 nx_26))))) ∧
  (¬ x_24 = 0 →
  P_115 (6 : Int32) hp_22 nx_23))))) ∧
  (¬ x_21 = 0 →
  P_115 (5 : Int32) hp_19 nx_20))))) ∧
  (¬ x_18 = 0 →
  P_115 (4 : Int32) hp_16 nx_17))))) ∧
  (¬ x_15 = 0 →
  P_115 (3 : Int32) hp_13 nx_14))))) ∧
  (¬ x_12 = 0 →
  P_115 (2 : Int32) hp_10 nx_11))))) ∧
  (¬ x_9 = 0 →
  P_115 (1 : Int32) hp_7 nx_8))))) ∧
  (¬ x_3 = 0 →
  P_115 (0 : Int32) hp_1 nx_2)))))
set_option maxHeartbeats 40000000 in
theorem met_X5_word {l : Launch} {g : zG} {d : Nat} {h0 : Nat} {hp : zHp} {nx : Nat} {Post : Int32 → zHp → Nat → Prop} (hw : wp_X5_word l g d h0 hp nx Post) : zMt l g yX5_word cX5_word 1 (some .int) (d + 1) 0 0 [.ref h0] hp nx (zQi g Post) := by
  refine z_start (by decide) (Nat.le_of_ble_eq_true rfl) ?_
  intro p e s m below meth c hk hr hin hH hz ls hl
  have hx := hk.1.1
  have hb := hk.1.2.1
  have hown := hk.1.2.2.2.1
  have hts := hk.1.2.2.2.2
  have hS : va_S (zAd g) s.heap s.heap [] := va_S.rf
  have hl : lv_has ls 1 [(0, va_rf (some h0))] := hl
  unfold wp_X5_word at hw
  refine zr_aload_n (r := some h0) hx hb dX5_word_0 rfl (lv_at hl 0 rfl) ?_
  refine zw_ldcSw hk 9 rfl dX5_word_1 ?_
  obtain ⟨a_49, ci_50, fs_51, er, he, hc, hw⟩ := zo_e hw
  obtain rfl := List.mem_singleton.mp hc
  refine zr_calli (zw_runV (As := [va_rf (some (g.2.2.2.2 9))]) hk hH hz hS hl.1 er hw (cwV 1 hts (lw_V q3095 q3097 qs97 q162 q3098) rfl rfl rfl (by decide +kernel) (z_room (Nat.le_of_ble_eq_true rfl))) he rfl rfl rfl (Nat.le_of_ble_eq_true rfl) dX5_word_4 ⟨Nat.le_of_ble_eq_true rfl, Nat.le_of_ble_eq_true rfl⟩) hS (fun x_3 hp_1 nx_2 hw H locs hH hz hS => ?_)
  obtain ⟨P_115, hP_115, hw⟩ := hw
  have hJ_115 : ∀ (x_4 : Int32) (hp_5 : zHp) (nx_6 : Nat) (H : Heap) (locs : List Loc) (ls : Array Slot), P_115 x_4 hp_5 nx_6 → lv_has ls 1 [(0, va_rf (some h0))] → zHd g hp_5 H → H.size = nx_6 → va_S (zAd g) s.heap H locs → W p l e (zrm (d + 1) 0 0) s m ([.ref h0] : List Value).toArray below meth c H locs 0 0 (MQ below (zQi g Post) ([.ref h0] : List Value).toArray s 0 0 (zAd g)) (F0 m 115 ls [.int x_4]) := by
    intro x_4 hp_5 nx_6 H locs ls hw hl hH hz hS
    have hw := hP_115 x_4 hp_5 nx_6 hw
    exact zr_iret hk hr hH hz hS hw (Nat.le_of_ble_eq_true rfl) (Nat.le_of_ble_eq_true rfl) dX5_word_115
  refine lv_if_eq (tgt := 14) hx hb dX5_word_7 (by decide) (fun hc => ?_) (fun hc => ?_)
  · have hw := hw.1 hc
    refine zr_aload_n (r := some h0) hx hb dX5_word_14 rfl (lv_at hl 0 rfl) ?_
    refine zw_ldcSw hk 10 rfl dX5_word_15 ?_
    obtain ⟨a_46, ci_47, fs_48, er, he, hc, hw⟩ := zo_e hw
    obtain rfl := List.mem_singleton.mp hc
    refine zr_calli (zw_runV (As := [va_rf (some (g.2.2.2.2 10))]) hk hH hz hS hl.1 er hw (cwV 1 hts (lw_V q3095 q3097 qs97 q162 q3098) rfl rfl rfl (by decide +kernel) (z_room (Nat.le_of_ble_eq_true rfl))) he rfl rfl rfl (Nat.le_of_ble_eq_true rfl) dX5_word_18 ⟨Nat.le_of_ble_eq_true rfl, Nat.le_of_ble_eq_true rfl⟩) hS (fun x_9 hp_7 nx_8 hw H locs hH hz hS => ?_)
    refine lv_if_eq (tgt := 28) hx hb dX5_word_21 (by decide) (fun hc => ?_) (fun hc => ?_)
    · have hw := hw.1 hc
      refine zr_aload_n (r := some h0) hx hb dX5_word_28 rfl (lv_at hl 0 rfl) ?_
      refine zw_ldcSw hk 11 rfl dX5_word_29 ?_
      obtain ⟨a_43, ci_44, fs_45, er, he, hc, hw⟩ := zo_e hw
      obtain rfl := List.mem_singleton.mp hc
      refine zr_calli (zw_runV (As := [va_rf (some (g.2.2.2.2 11))]) hk hH hz hS hl.1 er hw (cwV 1 hts (lw_V q3095 q3097 qs97 q162 q3098) rfl rfl rfl (by decide +kernel) (z_room (Nat.le_of_ble_eq_true rfl))) he rfl rfl rfl (Nat.le_of_ble_eq_true rfl) dX5_word_32 ⟨Nat.le_of_ble_eq_true rfl, Nat.le_of_ble_eq_true rfl⟩) hS (fun x_12 hp_10 nx_11 hw H locs hH hz hS => ?_)
      refine lv_if_eq (tgt := 42) hx hb dX5_word_35 (by decide) (fun hc => ?_) (fun hc => ?_)
      · have hw := hw.1 hc
        refine zr_aload_n (r := some h0) hx hb dX5_word_42 rfl (lv_at hl 0 rfl) ?_
        refine zw_ldcSw hk 12 rfl dX5_word_43 ?_
        obtain ⟨a_40, ci_41, fs_42, er, he, hc, hw⟩ := zo_e hw
        obtain rfl := List.mem_singleton.mp hc
        refine zr_calli (zw_runV (As := [va_rf (some (g.2.2.2.2 12))]) hk hH hz hS hl.1 er hw (cwV 1 hts (lw_V q3095 q3097 qs97 q162 q3098) rfl rfl rfl (by decide +kernel) (z_room (Nat.le_of_ble_eq_true rfl))) he rfl rfl rfl (Nat.le_of_ble_eq_true rfl) dX5_word_46 ⟨Nat.le_of_ble_eq_true rfl, Nat.le_of_ble_eq_true rfl⟩) hS (fun x_15 hp_13 nx_14 hw H locs hH hz hS => ?_)
        refine lv_if_eq (tgt := 56) hx hb dX5_word_49 (by decide) (fun hc => ?_) (fun hc => ?_)
        · have hw := hw.1 hc
          refine zr_aload_n (r := some h0) hx hb dX5_word_56 rfl (lv_at hl 0 rfl) ?_
          refine zw_ldcSw hk 13 rfl dX5_word_57 ?_
          obtain ⟨a_37, ci_38, fs_39, er, he, hc, hw⟩ := zo_e hw
          obtain rfl := List.mem_singleton.mp hc
          refine zr_calli (zw_runV (As := [va_rf (some (g.2.2.2.2 13))]) hk hH hz hS hl.1 er hw (cwV 1 hts (lw_V q3095 q3097 qs97 q162 q3098) rfl rfl rfl (by decide +kernel) (z_room (Nat.le_of_ble_eq_true rfl))) he rfl rfl rfl (Nat.le_of_ble_eq_true rfl) dX5_word_60 ⟨Nat.le_of_ble_eq_true rfl, Nat.le_of_ble_eq_true rfl⟩) hS (fun x_18 hp_16 nx_17 hw H locs hH hz hS => ?_)
          refine lv_if_eq (tgt := 70) hx hb dX5_word_63 (by decide) (fun hc => ?_) (fun hc => ?_)
          · have hw := hw.1 hc
            refine zr_aload_n (r := some h0) hx hb dX5_word_70 rfl (lv_at hl 0 rfl) ?_
            refine zw_ldcSw hk 14 rfl dX5_word_71 ?_
            obtain ⟨a_34, ci_35, fs_36, er, he, hc, hw⟩ := zo_e hw
            obtain rfl := List.mem_singleton.mp hc
            refine zr_calli (zw_runV (As := [va_rf (some (g.2.2.2.2 14))]) hk hH hz hS hl.1 er hw (cwV 1 hts (lw_V q3095 q3097 qs97 q162 q3098) rfl rfl rfl (by decide +kernel) (z_room (Nat.le_of_ble_eq_true rfl))) he rfl rfl rfl (Nat.le_of_ble_eq_true rfl) dX5_word_74 ⟨Nat.le_of_ble_eq_true rfl, Nat.le_of_ble_eq_true rfl⟩) hS (fun x_21 hp_19 nx_20 hw H locs hH hz hS => ?_)
            refine lv_if_eq (tgt := 84) hx hb dX5_word_77 (by decide) (fun hc => ?_) (fun hc => ?_)
            · have hw := hw.1 hc
              refine zr_aload_n (r := some h0) hx hb dX5_word_84 rfl (lv_at hl 0 rfl) ?_
              refine zw_ldcSw hk 15 rfl dX5_word_85 ?_
              obtain ⟨a_31, ci_32, fs_33, er, he, hc, hw⟩ := zo_e hw
              obtain rfl := List.mem_singleton.mp hc
              refine zr_calli (zw_runV (As := [va_rf (some (g.2.2.2.2 15))]) hk hH hz hS hl.1 er hw (cwV 1 hts (lw_V q3095 q3097 qs97 q162 q3098) rfl rfl rfl (by decide +kernel) (z_room (Nat.le_of_ble_eq_true rfl))) he rfl rfl rfl (Nat.le_of_ble_eq_true rfl) dX5_word_88 ⟨Nat.le_of_ble_eq_true rfl, Nat.le_of_ble_eq_true rfl⟩) hS (fun x_24 hp_22 nx_23 hw H locs hH hz hS => ?_)
              refine lv_if_eq (tgt := 99) hx hb dX5_word_91 (by decide) (fun hc => ?_) (fun hc => ?_)
              · have hw := hw.1 hc
                refine zr_aload_n (r := some h0) hx hb dX5_word_99 rfl (lv_at hl 0 rfl) ?_
                refine zw_ldcSw hk 16 rfl dX5_word_100 ?_
                obtain ⟨a_28, ci_29, fs_30, er, he, hc, hw⟩ := zo_e hw
                obtain rfl := List.mem_singleton.mp hc
                refine zr_calli (zw_runV (As := [va_rf (some (g.2.2.2.2 16))]) hk hH hz hS hl.1 er hw (cwV 1 hts (lw_V q3095 q3097 qs97 q162 q3098) rfl rfl rfl (by decide +kernel) (z_room (Nat.le_of_ble_eq_true rfl))) he rfl rfl rfl (Nat.le_of_ble_eq_true rfl) dX5_word_103 ⟨Nat.le_of_ble_eq_true rfl, Nat.le_of_ble_eq_true rfl⟩) hS (fun x_27 hp_25 nx_26 hw H locs hH hz hS => ?_)
                refine lv_if_eq (tgt := 114) hx hb dX5_word_106 (by decide) (fun hc => ?_) (fun hc => ?_)
                · have hw := hw.1 hc
                  refine lv_iconst (v := (-1 : Int32)) hx hb dX5_word_114 (by decide) ?_
                  exact hJ_115 (-1 : Int32) hp_25 nx_26 _ _ _ hw hl hH hz hS
                · have hw := hw.2 hc
                  refine lv_bipush (v := (7 : Int32)) hx hb dX5_word_109 (by decide) ?_
                  refine lv_goto (tgt := 115) hx hb dX5_word_111 (by decide) ?_
                  exact hJ_115 (7 : Int32) hp_25 nx_26 _ _ _ hw hl hH hz hS
              · have hw := hw.2 hc
                refine lv_bipush (v := (6 : Int32)) hx hb dX5_word_94 (by decide) ?_
                refine lv_goto (tgt := 115) hx hb dX5_word_96 (by decide) ?_
                exact hJ_115 (6 : Int32) hp_22 nx_23 _ _ _ hw hl hH hz hS
            · have hw := hw.2 hc
              refine lv_iconst (v := (5 : Int32)) hx hb dX5_word_80 (by decide) ?_
              refine lv_goto (tgt := 115) hx hb dX5_word_81 (by decide) ?_
              exact hJ_115 (5 : Int32) hp_19 nx_20 _ _ _ hw hl hH hz hS
          · have hw := hw.2 hc
            refine lv_iconst (v := (4 : Int32)) hx hb dX5_word_66 (by decide) ?_
            refine lv_goto (tgt := 115) hx hb dX5_word_67 (by decide) ?_
            exact hJ_115 (4 : Int32) hp_16 nx_17 _ _ _ hw hl hH hz hS
        · have hw := hw.2 hc
          refine lv_iconst (v := (3 : Int32)) hx hb dX5_word_52 (by decide) ?_
          refine lv_goto (tgt := 115) hx hb dX5_word_53 (by decide) ?_
          exact hJ_115 (3 : Int32) hp_13 nx_14 _ _ _ hw hl hH hz hS
      · have hw := hw.2 hc
        refine lv_iconst (v := (2 : Int32)) hx hb dX5_word_38 (by decide) ?_
        refine lv_goto (tgt := 115) hx hb dX5_word_39 (by decide) ?_
        exact hJ_115 (2 : Int32) hp_10 nx_11 _ _ _ hw hl hH hz hS
    · have hw := hw.2 hc
      refine lv_iconst (v := (1 : Int32)) hx hb dX5_word_24 (by decide) ?_
      refine lv_goto (tgt := 115) hx hb dX5_word_25 (by decide) ?_
      exact hJ_115 (1 : Int32) hp_7 nx_8 _ _ _ hw hl hH hz hS
  · have hw := hw.2 hc
    refine lv_iconst (v := (0 : Int32)) hx hb dX5_word_10 (by decide) ?_
    refine lv_goto (tgt := 115) hx hb dX5_word_11 (by decide) ?_
    exact hJ_115 (0 : Int32) hp_1 nx_2 _ _ _ hw hl hH hz hS
def wp_X5_isWord (l : Launch) (g : zG) (d : Nat) (h0 : Nat) (r1 : Option Nat) (hp : zHp) (nx : Nat) (Post : Int32 → zHp → Nat → Prop) : Prop :=
  (zo hp r1 [40] fun a_41 ci_42 fs_43 => zMt l g yJ7_length cJ7_length 1 (some .int) d 0 0 (.ref a_41 :: []) hp nx (zQi g fun x_3 hp_1 nx_2 =>
  (zgI hp_1 (some h0) [5] 39 fun x_7 =>
  (zgI hp_1 (some h0) [5] 40 fun x_11 =>
  ((x_3 = (x_7 - x_11) →
  (∃ I_20 : Nat → Int32 → zHp → Nat → Prop, (∃ n_40, I_20 n_40 (0 : Int32) hp_1 nx_2) ∧ ∀ (n_15 : Nat) (x_12 : Int32) (hp_13 : zHp) (nx_14 : Nat), I_20 n_15 x_12 hp_13 nx_14 →
  (zo hp_13 r1 [40] fun a_37 ci_38 fs_39 => zMt l g yJ7_length cJ7_length 1 (some .int) d 0 0 (.ref a_37 :: []) hp_13 nx_14 (zQi g fun x_18 hp_16 nx_17 =>
  ((x_18 ≤ x_12 →
  (Post (1 : Int32) hp_16 nx_17)) ∧
  (¬ x_18 ≤ x_12 →
  (zo hp_16 r1 [40] fun a_34 ci_35 fs_36 => zMt l g yJ7_charAt cJ7_charAt 2 (some .char) d 0 0 (.ref a_34 :: [.int x_12]) hp_16 nx_17 (zQi g fun x_21 hp_19 nx_20 =>
  (zgI hp_19 (some h0) [5] 40 fun x_25 =>
  (zo hp_19 (some h0) [5] fun a_31 ci_32 fs_33 => zMt l g yX5_byteAt cX5_byteAt 2 (some .int) d 0 0 (.ref a_31 :: [.int (x_25 + x_12)]) hp_19 nx_20 (zQi g fun x_28 hp_26 nx_27 =>
  ((x_21 = x_28 →
  (∀ x_29 : Int32, x_29 = x_12 + (1 : Int32) →
  (∃ k_30, k_30 < n_15 ∧ I_20 k_30 x_29 hp_26 nx_27))) ∧
  (¬ x_21 = x_28 →
  (Post (0 : Int32) hp_26 nx_27)))))))))))))) ∧
  (¬ x_3 = (x_7 - x_11) →
  (Post (0 : Int32) hp_1 nx_2)))))))
set_option maxHeartbeats 40000000 in
theorem met_X5_isWord {l : Launch} {g : zG} {d : Nat} {h0 : Nat} {r1 : Option Nat} {hp : zHp} {nx : Nat} {Post : Int32 → zHp → Nat → Prop} (hw : wp_X5_isWord l g d h0 r1 hp nx Post) : zMt l g yX5_isWord cX5_isWord 3 (some .boolean) (d + 1) 0 0 [.ref h0, va_rf r1] hp nx (zQi g Post) := by
  refine z_start (by decide) (by cases r1 <;> exact Nat.le_of_ble_eq_true rfl) ?_
  intro p e s m below meth c hk hr hin hH hz ls hl
  have hx := hk.1.1
  have hb := hk.1.2.1
  have hown := hk.1.2.2.2.1
  have hts := hk.1.2.2.2.2
  have hS : va_S (zAd g) s.heap s.heap [] := va_S.rf
  have hl : lv_has ls 3 [(0, va_rf (some h0)), (1, va_rf r1)] := by cases r1 <;> exact hl
  unfold wp_X5_isWord at hw
  refine zr_aload_n (r := r1) hx hb dX5_isWord_0 rfl (lv_at hl 1 rfl) ?_
  obtain ⟨a_41, ci_42, fs_43, er, he, hc, hw⟩ := zo_e hw
  obtain rfl := List.mem_singleton.mp hc
  refine zr_calli (zw_runV (As := []) hk hH hz hS hl.1 er hw (cwV 0 hts (lw_V q3099 q465 q466 q140 q467) rfl rfl rfl (by decide +kernel) (z_room (Nat.le_of_ble_eq_true rfl))) he rfl rfl rfl (Nat.le_of_ble_eq_true rfl) dX5_isWord_1 ⟨Nat.le_of_ble_eq_true rfl, Nat.le_of_ble_eq_true rfl⟩) hS (fun x_3 hp_1 nx_2 hw H locs hH hz hS => ?_)
  refine zr_aload_n (r := some h0) hx hb dX5_isWord_4 rfl (lv_at hl 0 rfl) ?_
  obtain ⟨a_4, ci_5, fs_6, x_7, er, he, hc, hv, hw⟩ := zgI_e hw
  refine zw_get hk hH er he hv (fk_X5_351 hc) dX5_isWord_5 ?_
  refine zr_aload_n (r := some h0) hx hb dX5_isWord_8 rfl (lv_at hl 0 rfl) ?_
  obtain ⟨a_8, ci_9, fs_10, x_11, er, he, hc, hv, hw⟩ := zgI_e hw
  refine zw_get hk hH er he hv (fk_X5_361 hc) dX5_isWord_9 ?_
  refine lv_isub hx hb dX5_isWord_12 ?_
  refine lv_icmp_eq (tgt := 18) hx hb dX5_isWord_13 (by decide) (fun hc => ?_) (fun hc => ?_)
  · have hw := hw.1 hc
    refine lv_iconst (v := (0 : Int32)) hx hb dX5_isWord_18 (by decide) ?_
    refine lv_istore_n (i := 2) (lv' := [(2, .int (0 : Int32)), (0, va_rf (some h0)), (1, va_rf r1)]) hx hb dX5_isWord_19 rfl hl (by decide) (by first | rfl | simp [List.filter_cons, z_cat, z_catI, z_catJ, z_catF, z_catD]) (fun ls hl => ?_)
    obtain ⟨I_20, ⟨n_40, hI⟩, hB_20⟩ := hw
    have hL_20 : ∀ (n_15 : Nat) (x_12 : Int32) (hp_13 : zHp) (nx_14 : Nat) (H : Heap) (locs : List Loc) (ls : Array Slot), I_20 n_15 x_12 hp_13 nx_14 → lv_has ls 3 [(0, va_rf (some h0)), (1, va_rf r1), (2, .int x_12)] → zHd g hp_13 H → H.size = nx_14 → va_S (zAd g) s.heap H locs → W p l e (zrm (d + 1) 0 0) s m ([.ref h0, va_rf r1] : List Value).toArray below meth c H locs 0 0 (MQ below (zQi g Post) ([.ref h0, va_rf r1] : List Value).toArray s 0 0 (zAd g)) (F0 m 20 ls []) := by
      intro n_15
      induction n_15 using Nat.strongRecOn with
      | _ n_15 ih_20 =>
        intro x_12 hp_13 nx_14 H locs ls hw hl hH hz hS
        have hw := hB_20 n_15 x_12 hp_13 nx_14 hw
        refine lv_iload_n hx hb dX5_isWord_20 rfl (lv_at hl 2 rfl) ?_
        refine zr_aload_n (r := r1) hx hb dX5_isWord_21 rfl (lv_at hl 1 rfl) ?_
        obtain ⟨a_37, ci_38, fs_39, er, he, hc, hw⟩ := zo_e hw
        obtain rfl := List.mem_singleton.mp hc
        refine zr_calli (zw_runV (As := []) hk hH hz hS hl.1 er hw (cwV 0 hts (lw_V q3099 q465 q466 q140 q467) rfl rfl rfl (by decide +kernel) (z_room (Nat.le_of_ble_eq_true rfl))) he rfl rfl rfl (Nat.le_of_ble_eq_true rfl) dX5_isWord_22 ⟨Nat.le_of_ble_eq_true rfl, Nat.le_of_ble_eq_true rfl⟩) hS (fun x_18 hp_16 nx_17 hw H locs hH hz hS => ?_)
        refine lv_icmp_ge (tgt := 54) hx hb dX5_isWord_25 (by decide) (fun hc => ?_) (fun hc => ?_)
        · have hw := hw.1 hc
          refine lv_iconst (v := (1 : Int32)) hx hb dX5_isWord_54 (by decide) ?_
          exact zr_zret hk hr hH hz hS (Or.inr rfl) hw (Nat.le_of_ble_eq_true rfl) (Nat.le_of_ble_eq_true rfl) dX5_isWord_55
        · have hw := hw.2 hc
          refine zr_aload_n (r := r1) hx hb dX5_isWord_28 rfl (lv_at hl 1 rfl) ?_
          refine lv_iload_n hx hb dX5_isWord_29 rfl (lv_at hl 2 rfl) ?_
          obtain ⟨a_34, ci_35, fs_36, er, he, hc, hw⟩ := zo_e hw
          obtain rfl := List.mem_singleton.mp hc
          refine zr_calli (zw_runV (As := [.int x_12]) hk hH hz hS hl.1 er hw (cwV 1 hts (lw_V q3100 q1803 q1804 q140 q1805) rfl rfl rfl (by decide +kernel) (z_room (Nat.le_of_ble_eq_true rfl))) he rfl rfl rfl (Nat.le_of_ble_eq_true rfl) dX5_isWord_30 ⟨Nat.le_of_ble_eq_true rfl, Nat.le_of_ble_eq_true rfl⟩) hS (fun x_21 hp_19 nx_20 hw H locs hH hz hS => ?_)
          refine zr_aload_n (r := some h0) hx hb dX5_isWord_33 rfl (lv_at hl 0 rfl) ?_
          refine zr_aload_n (r := some h0) hx hb dX5_isWord_34 rfl (lv_at hl 0 rfl) ?_
          obtain ⟨a_22, ci_23, fs_24, x_25, er, he, hc, hv, hw⟩ := zgI_e hw
          refine zw_get hk hH er he hv (fk_X5_361 hc) dX5_isWord_35 ?_
          refine lv_iload_n hx hb dX5_isWord_38 rfl (lv_at hl 2 rfl) ?_
          refine lv_iadd hx hb dX5_isWord_39 ?_
          obtain ⟨a_31, ci_32, fs_33, er, he, hc, hw⟩ := zo_e hw
          obtain rfl := List.mem_singleton.mp hc
          refine zr_calli (zw_runV (As := [.int (x_25 + x_12)]) hk hH hz hS hl.1 er hw (cwV 1 hts (lw_V q3086 q3088 qs95 q162 q3089) rfl rfl rfl (by decide +kernel) (z_room (Nat.le_of_ble_eq_true rfl))) he rfl rfl rfl (Nat.le_of_ble_eq_true rfl) dX5_isWord_40 ⟨Nat.le_of_ble_eq_true rfl, Nat.le_of_ble_eq_true rfl⟩) hS (fun x_28 hp_26 nx_27 hw H locs hH hz hS => ?_)
          refine lv_icmp_eq (tgt := 48) hx hb dX5_isWord_43 (by decide) (fun hc => ?_) (fun hc => ?_)
          · have hw := hw.1 hc
            obtain ⟨x_29, ex_29⟩ : ∃ y : Int32, y = x_12 + (1 : Int32) := ⟨_, rfl⟩
            have hw := hw x_29 ex_29
            refine lv_iinc (v := x_29) (lv' := [(2, .int x_29), (0, va_rf (some h0)), (1, va_rf r1)]) hx hb dX5_isWord_48 hl (k := 2) rfl (by rw [ex_29]; rfl) (by decide) (by first | rfl | simp [List.filter_cons, z_cat, z_catI, z_catJ, z_catF, z_catD]) (fun ls hl => ?_)
            refine lv_goto (tgt := 20) hx hb dX5_isWord_51 (by decide) ?_
            obtain ⟨k_30, hlt, hw⟩ := hw
            exact ih_20 k_30 hlt x_29 hp_26 nx_27 _ _ _ hw (lv_sub hl [1, 2, 0] rfl) hH hz hS
          · have hw := hw.2 hc
            refine lv_iconst (v := (0 : Int32)) hx hb dX5_isWord_46 (by decide) ?_
            exact zr_zret hk hr hH hz hS (Or.inl rfl) hw (Nat.le_of_ble_eq_true rfl) (Nat.le_of_ble_eq_true rfl) dX5_isWord_47
    exact hL_20 n_40 (0 : Int32) hp_1 nx_2 _ _ _ hI (lv_sub hl [1, 2, 0] rfl) hH hz hS
  · have hw := hw.2 hc
    refine lv_iconst (v := (0 : Int32)) hx hb dX5_isWord_16 (by decide) ?_
    exact zr_zret hk hr hH hz hS (Or.inl rfl) hw (Nat.le_of_ble_eq_true rfl) (Nat.le_of_ble_eq_true rfl) dX5_isWord_17
def wp_X5_isDigit (l : Launch) (g : zG) (d : Nat) (h0 : Nat) (hp : zHp) (nx : Nat) (Post : Int32 → zHp → Nat → Prop) : Prop :=
  (zgI hp (some h0) [5] 39 fun x_4 =>
  (zo hp (some h0) [5] fun a_11 ci_12 fs_13 => zMt l g yX5_byteAt cX5_byteAt 2 (some .int) d 0 0 (.ref a_11 :: [.int x_4]) hp nx (zQi g fun x_7 hp_5 nx_6 =>
  (zMt l g yX5_in cX5_in 3 (some .boolean) d 0 0 [.int x_7, .int (48 : Int32), .int (57 : Int32)] hp_5 nx_6 (zQi g fun x_10 hp_8 nx_9 =>
  (((x_10 = 0 ∨ x_10 = 1) ∧ Post x_10 hp_8 nx_9)))))))
set_option maxHeartbeats 40000000 in
theorem met_X5_isDigit {l : Launch} {g : zG} {d : Nat} {h0 : Nat} {hp : zHp} {nx : Nat} {Post : Int32 → zHp → Nat → Prop} (hw : wp_X5_isDigit l g d h0 hp nx Post) : zMt l g yX5_isDigit cX5_isDigit 1 (some .boolean) (d + 1) 0 0 [.ref h0] hp nx (zQi g Post) := by
  refine z_start (by decide) (Nat.le_of_ble_eq_true rfl) ?_
  intro p e s m below meth c hk hr hin hH hz ls hl
  have hx := hk.1.1
  have hb := hk.1.2.1
  have hown := hk.1.2.2.2.1
  have hts := hk.1.2.2.2.2
  have hS : va_S (zAd g) s.heap s.heap [] := va_S.rf
  have hl : lv_has ls 1 [(0, va_rf (some h0))] := hl
  unfold wp_X5_isDigit at hw
  refine zr_aload_n (r := some h0) hx hb dX5_isDigit_0 rfl (lv_at hl 0 rfl) ?_
  refine zr_aload_n (r := some h0) hx hb dX5_isDigit_1 rfl (lv_at hl 0 rfl) ?_
  obtain ⟨a_1, ci_2, fs_3, x_4, er, he, hc, hv, hw⟩ := zgI_e hw
  refine zw_get hk hH er he hv (fk_X5_351 hc) dX5_isDigit_2 ?_
  obtain ⟨a_11, ci_12, fs_13, er, he, hc, hw⟩ := zo_e hw
  obtain rfl := List.mem_singleton.mp hc
  refine zr_calli (zw_runV (As := [.int x_4]) hk hH hz hS hl.1 er hw (cwV 1 hts (lw_V q3086 q3088 qs95 q162 q3089) rfl rfl rfl (by decide +kernel) (z_room (Nat.le_of_ble_eq_true rfl))) he rfl rfl rfl (Nat.le_of_ble_eq_true rfl) dX5_isDigit_5 ⟨Nat.le_of_ble_eq_true rfl, Nat.le_of_ble_eq_true rfl⟩) hS (fun x_7 hp_5 nx_6 hw H locs hH hz hS => ?_)
  refine lv_bipush (v := (48 : Int32)) hx hb dX5_isDigit_8 (by decide) ?_
  refine lv_bipush (v := (57 : Int32)) hx hb dX5_isDigit_10 (by decide) ?_
  refine zr_calli (zr_runS (As := [.int x_7, .int (48 : Int32), .int (57 : Int32)]) hk hH hz hS hl.1 hw (va_cwS 3 hts (lw_S q2911 q2912 q162 q2913) rfl rfl rfl (by decide +kernel) (z_room (Nat.le_of_ble_eq_true rfl))) rfl rfl (Nat.le_of_ble_eq_true rfl) dX5_isDigit_12 ⟨Nat.le_of_ble_eq_true rfl, Nat.le_of_ble_eq_true rfl⟩) hS (fun x_10 hp_8 nx_9 hw H locs hH hz hS => ?_)
  exact zr_zret hk hr hH hz hS hw.1 hw.2 (Nat.le_of_ble_eq_true rfl) (Nat.le_of_ble_eq_true rfl) dX5_isDigit_15
theorem fp_X5_388 {ci : Nat} (h : ci ∈ [5]) : zFp "WhatIfSheetModel" 388 ci 43 .int := by
  simp only [List.mem_cons, List.not_mem_nil, or_false] at h
  rcases h with rfl
  · exact ⟨RX5, TX5, 76, rfl, by decide, q2717, rfl, by decide +kernel⟩
theorem fp_X5_391 {ci : Nat} (h : ci ∈ [5]) : zFp "WhatIfSheetModel" 391 ci 44 .int := by
  simp only [List.mem_cons, List.not_mem_nil, or_false] at h
  rcases h with rfl
  · exact ⟨RX5, TX5, 76, rfl, by decide, q2718, rfl, by decide +kernel⟩
theorem fk_X5_391 {ci : Nat} (h : ci ∈ [5]) : zFk "WhatIfSheetModel" 391 ci 44 := by
  simp only [List.mem_cons, List.not_mem_nil, or_false] at h
  rcases h with rfl
  · exact ⟨RX5, TX5, 76, rfl, by decide, q2718⟩
theorem fk_X5_388 {ci : Nat} (h : ci ∈ [5]) : zFk "WhatIfSheetModel" 388 ci 43 := by
  simp only [List.mem_cons, List.not_mem_nil, or_false] at h
  rcases h with rfl
  · exact ⟨RX5, TX5, 76, rfl, by decide, q2717⟩
def wp_X5_number (l : Launch) (g : zG) (d : Nat) (h0 : Nat) (hp : zHp) (nx : Nat) (Post : zHp → Nat → Prop) : Prop :=
  (zpt g hp (some h0) [5] 43 (.int (0 : Int32)) fun hp_4 =>
  (zpt g hp_4 (some h0) [5] 44 (.int (-1 : Int32)) fun hp_8 =>
  (∃ I_10 : Nat → zHp → Nat → Prop, (∃ n_175, I_10 n_175 hp_8 nx) ∧ ∀ (n_11 : Nat) (hp_9 : zHp) (nx_10 : Nat), I_10 n_11 hp_9 nx_10 →
  (zo hp_9 (some h0) [5] fun a_172 ci_173 fs_174 => zMt l g yX5_isDigit cX5_isDigit 1 (some .boolean) d 0 0 (.ref a_172 :: []) hp_9 nx_10 (zQi g fun x_14 hp_12 nx_13 =>
  ((x_14 = 0 →
  (zgI hp_12 (some h0) [5] 39 fun x_18 =>
  (zgI hp_12 (some h0) [5] 40 fun x_22 =>
  (∃ P_78 : (Option Nat) → Int32 → zHp → Nat → Prop, (∀ (r_23 : Option Nat) (x_24 : Int32) (hp_25 : zHp) (nx_26 : Nat), P_78 r_23 x_24 hp_25 nx_26 →
  ((x_24 = 0 ∨ x_24 = 1) ∧ zpt g hp_25 r_23 [5] 46 (.int x_24) fun hp_30 =>
  (zgI hp_30 (some h0) [5] 39 fun x_34 =>
  (zo hp_30 (some h0) [5] fun a_139 ci_140 fs_141 => zMt l g yX5_byteAt cX5_byteAt 2 (some .int) d 0 0 (.ref a_139 :: [.int x_34]) hp_30 nx_26 (zQi g fun x_37 hp_35 nx_36 =>
  ((x_37 = (46 : Int32) →
  (zgI hp_35 (some h0) [5] 39 fun x_41 =>
  (zpt g hp_35 (some h0) [5] 39 (.int (x_41 + (1 : Int32))) fun hp_45 =>
  (zgI hp_45 (some h0) [5] 39 fun x_49 =>
  (zpt g hp_45 (some h0) [5] 44 (.int (0 : Int32)) fun hp_53 =>
  (∃ I_115 : Nat → Int32 → zHp → Nat → Prop, (∃ n_138, I_115 n_138 x_49 hp_53 nx_36) ∧ ∀ (n_57 : Nat) (x_54 : Int32) (hp_55 : zHp) (nx_56 : Nat), I_115 n_57 x_54 hp_55 nx_56 →
  (zo hp_55 (some h0) [5] fun a_135 ci_136 fs_137 => zMt l g yX5_isDigit cX5_isDigit 1 (some .boolean) d 0 0 (.ref a_135 :: []) hp_55 nx_56 (zQi g fun x_60 hp_58 nx_59 =>
  ((x_60 = 0 →
  (zgI hp_58 (some h0) [5] 39 fun x_64 =>
  (∀ x_65 : Int32, x_65 = x_64 - x_54 →
  (zgI hp_58 (some h0) [5] 46 fun x_69 =>
  (zMt l g yX5_in cX5_in 3 (some .boolean) d 0 0 [.int x_65, .int (1 : Int32), .int (3 : Int32)] hp_58 nx_59 (zQi g fun x_72 hp_70 nx_71 =>
  (∃ P_194 : Int32 → Int32 → (Option Nat) → Int32 → Int32 → zHp → Nat → Prop, (∀ (x_73 : Int32) (x_74 : Int32) (r_75 : Option Nat) (x_76 : Int32) (x_77 : Int32) (hp_78 : zHp) (nx_79 : Nat), P_194 x_73 x_74 r_75 x_76 x_77 hp_78 nx_79 →
  (((x_76 ||| x_77) = 0 ∨ (x_76 ||| x_77) = 1) ∧ zpt g hp_78 r_75 [5] 46 (.int (x_76 ||| x_77)) fun hp_83 =>
  (∃ I_200 : Nat → Int32 → Int32 → Int32 → zHp → Nat → Prop, (∃ n_100, I_200 n_100 x_73 x_74 x_74 hp_83 nx_79) ∧ ∀ (n_89 : Nat) (x_84 : Int32) (x_85 : Int32) (x_86 : Int32) (hp_87 : zHp) (nx_88 : Nat), I_200 n_89 x_84 x_85 x_86 hp_87 nx_88 →
  (((3 : Int32) ≤ x_86 →
  (Post hp_87 nx_88)) ∧
  (¬ (3 : Int32) ≤ x_86 →
  (zgI hp_87 (some h0) [5] 44 fun x_93 =>
  (zpt g hp_87 (some h0) [5] 44 (.int (x_93 * (10 : Int32))) fun hp_97 =>
  (∀ x_98 : Int32, x_98 = x_86 + (1 : Int32) →
  (∃ k_99, k_99 < n_89 ∧ I_200 k_99 x_84 x_85 x_98 hp_97 nx_88))))))))) ∧
  ((x_72 = 0 →
  P_194 x_54 x_65 (some h0) x_69 (1 : Int32) hp_70 nx_71) ∧
  (¬ x_72 = 0 →
  P_194 x_54 x_65 (some h0) x_69 (0 : Int32) hp_70 nx_71))))))))) ∧
  (¬ x_60 = 0 →
  (zgI hp_58 (some h0) [5] 39 fun x_104 =>
  (∃ P_155 : Int32 → zHp → Nat → Prop, (∀ (x_105 : Int32) (hp_106 : zHp) (nx_107 : Nat), P_155 x_105 hp_106 nx_107 →
  (zgI hp_106 (some h0) [5] 39 fun x_111 =>
  (zpt g hp_106 (some h0) [5] 39 (.int (x_111 + (1 : Int32))) fun hp_115 =>
  (∃ k_116, k_116 < n_57 ∧ I_115 k_116 x_105 hp_115 nx_107)))) ∧
  (((3 : Int32) ≤ (x_104 - x_54) →
  P_155 x_54 hp_58 nx_59) ∧
  (¬ (3 : Int32) ≤ (x_104 - x_54) →
  (zgI hp_58 (some h0) [5] 44 fun x_120 =>
  (zgI hp_58 (some h0) [5] 39 fun x_124 =>
  (zo hp_58 (some h0) [5] fun a_132 ci_133 fs_134 => zMt l g yX5_byteAt cX5_byteAt 2 (some .int) d 0 0 (.ref a_132 :: [.int x_124]) hp_58 nx_59 (zQi g fun x_127 hp_125 nx_126 =>
  (zpt g hp_125 (some h0) [5] 44 (.int ((((10 : Int32) * x_120) + x_127) - (48 : Int32))) fun hp_131 =>
  P_155 x_54 hp_131 nx_126))))))))))))))))))) ∧
  (¬ x_37 = (46 : Int32) →
  (Post hp_35 nx_36)))))))) ∧
  (((x_18 - x_22) ≤ (4 : Int32) →
  P_78 (some h0) (0 : Int32) hp_12 nx_13) ∧
  (¬ (x_18 - x_22) ≤ (4 : Int32) →
  P_78 (some h0) (1 : Int32) hp_12 nx_13)))))) ∧
  (¬ x_14 = 0 →
  (zgI hp_12 (some h0) [5] 43 fun x_145 =>
  (zgI hp_12 (some h0) [5] 39 fun x_149 =>
  (zo hp_12 (some h0) [5] fun a_169 ci_170 fs_171 => zMt l g yX5_byteAt cX5_byteAt 2 (some .int) d 0 0 (.ref a_169 :: [.int x_149]) hp_12 nx_13 (zQi g fun x_152 hp_150 nx_151 =>
  (zMt l g yJ10_min cJ10_min 2 (some .int) d 0 0 [.int (100000 : Int32), .int ((((10 : Int32) * x_145) + x_152) - (48 : Int32))] hp_150 nx_151 (zQi g fun x_155 hp_153 nx_154 =>
  (zpt g hp_153 (some h0) [5] 43 (.int x_155) fun hp_159 =>
  (zgI hp_159 (some h0) [5] 39 fun x_163 =>
  (zpt g hp_159 (some h0) [5] 39 (.int (x_163 + (1 : Int32))) fun hp_167 =>
  (∃ k_168, k_168 < n_11 ∧ I_10 k_168 hp_167 nx_154)))))))))))))))))
set_option maxHeartbeats 40000000 in
theorem met_X5_number {l : Launch} {g : zG} {d : Nat} {h0 : Nat} {hp : zHp} {nx : Nat} {Post : zHp → Nat → Prop} (hw : wp_X5_number l g d h0 hp nx Post) : zMt l g yX5_number cX5_number 4 none (d + 1) 0 0 [.ref h0] hp nx (zQv g Post) := by
  refine z_start (by decide) (Nat.le_of_ble_eq_true rfl) ?_
  intro p e s m below meth c hk hr hin hH hz ls hl
  have hx := hk.1.1
  have hb := hk.1.2.1
  have hown := hk.1.2.2.2.1
  have hts := hk.1.2.2.2.2
  have hS : va_S (zAd g) s.heap s.heap [] := va_S.rf
  have hl : lv_has ls 4 [(0, va_rf (some h0))] := hl
  unfold wp_X5_number at hw
  refine zr_aload_n (r := some h0) hx hb dX5_number_0 rfl (lv_at hl 0 rfl) ?_
  refine lv_iconst (v := (0 : Int32)) hx hb dX5_number_1 (by decide) ?_
  obtain ⟨a_1, ci_2, fs_3, hp_4, er, he, hc, hA, hkl, eh, hw⟩ := zpt_e hw
  refine zw_put hk hH hz hS er he hA hkl eh (fp_X5_388 hc) rfl rfl dX5_number_2 (fun H locs hH hz hS => ?_)
  refine zr_aload_n (r := some h0) hx hb dX5_number_5 rfl (lv_at hl 0 rfl) ?_
  refine lv_iconst (v := (-1 : Int32)) hx hb dX5_number_6 (by decide) ?_
  obtain ⟨a_5, ci_6, fs_7, hp_8, er, he, hc, hA, hkl, eh, hw⟩ := zpt_e hw
  refine zw_put hk hH hz hS er he hA hkl eh (fp_X5_391 hc) rfl rfl dX5_number_7 (fun H locs hH hz hS => ?_)
  obtain ⟨I_10, ⟨n_175, hI⟩, hB_10⟩ := hw
  have hL_10 : ∀ (n_11 : Nat) (hp_9 : zHp) (nx_10 : Nat) (H : Heap) (locs : List Loc) (ls : Array Slot), I_10 n_11 hp_9 nx_10 → lv_has ls 4 [(0, va_rf (some h0))] → zHd g hp_9 H → H.size = nx_10 → va_S (zAd g) s.heap H locs → W p l e (zrm (d + 1) 0 0) s m ([.ref h0] : List Value).toArray below meth c H locs 0 0 (MQ below (zQv g Post) ([.ref h0] : List Value).toArray s 0 0 (zAd g)) (F0 m 10 ls []) := by
    intro n_11
    induction n_11 using Nat.strongRecOn with
    | _ n_11 ih_10 =>
      intro hp_9 nx_10 H locs ls hw hl hH hz hS
      have hw := hB_10 n_11 hp_9 nx_10 hw
      refine zr_aload_n (r := some h0) hx hb dX5_number_10 rfl (lv_at hl 0 rfl) ?_
      obtain ⟨a_172, ci_173, fs_174, er, he, hc, hw⟩ := zo_e hw
      obtain rfl := List.mem_singleton.mp hc
      refine zr_calli (zw_runV (As := []) hk hH hz hS hl.1 er hw (cwV 0 hts (lw_V q3108 q3110 qs98 q162 q3111) rfl rfl rfl (by decide +kernel) (z_room (Nat.le_of_ble_eq_true rfl))) he rfl rfl rfl (Nat.le_of_ble_eq_true rfl) dX5_number_11 ⟨Nat.le_of_ble_eq_true rfl, Nat.le_of_ble_eq_true rfl⟩) hS (fun x_14 hp_12 nx_13 hw H locs hH hz hS => ?_)
      refine lv_if_eq (tgt := 59) hx hb dX5_number_14 (by decide) (fun hc => ?_) (fun hc => ?_)
      · have hw := hw.1 hc
        refine zr_aload_n (r := some h0) hx hb dX5_number_59 rfl (lv_at hl 0 rfl) ?_
        refine zr_aload_n (r := some h0) hx hb dX5_number_60 rfl (lv_at hl 0 rfl) ?_
        obtain ⟨a_15, ci_16, fs_17, x_18, er, he, hc, hv, hw⟩ := zgI_e hw
        refine zw_get hk hH er he hv (fk_X5_351 hc) dX5_number_61 ?_
        refine zr_aload_n (r := some h0) hx hb dX5_number_64 rfl (lv_at hl 0 rfl) ?_
        obtain ⟨a_19, ci_20, fs_21, x_22, er, he, hc, hv, hw⟩ := zgI_e hw
        refine zw_get hk hH er he hv (fk_X5_361 hc) dX5_number_65 ?_
        refine lv_isub hx hb dX5_number_68 ?_
        refine lv_iconst (v := (4 : Int32)) hx hb dX5_number_69 (by decide) ?_
        obtain ⟨P_78, hP_78, hw⟩ := hw
        have hJ_78 : ∀ (r_23 : Option Nat) (x_24 : Int32) (hp_25 : zHp) (nx_26 : Nat) (H : Heap) (locs : List Loc) (ls : Array Slot), P_78 r_23 x_24 hp_25 nx_26 → lv_has ls 4 [(0, va_rf (some h0))] → zHd g hp_25 H → H.size = nx_26 → va_S (zAd g) s.heap H locs → W p l e (zrm (d + 1) 0 0) s m ([.ref h0] : List Value).toArray below meth c H locs 0 0 (MQ below (zQv g Post) ([.ref h0] : List Value).toArray s 0 0 (zAd g)) (F0 m 78 ls [.int x_24, va_rf r_23]) := by
          intro r_23 x_24 hp_25 nx_26 H locs ls hw hl hH hz hS
          have hw := hP_78 r_23 x_24 hp_25 nx_26 hw
          obtain ⟨hbo, hw⟩ := hw
          obtain ⟨a_27, ci_28, fs_29, hp_30, er, he, hc, hA, hkl, eh, hw⟩ := zpt_e hw
          refine zw_put hk hH hz hS er he hA hkl eh (fp_X5_357 hc) (z_nb hbo) (z_fb hbo) dX5_number_78 (fun H locs hH hz hS => ?_)
          refine zr_aload_n (r := some h0) hx hb dX5_number_81 rfl (lv_at hl 0 rfl) ?_
          refine zr_aload_n (r := some h0) hx hb dX5_number_82 rfl (lv_at hl 0 rfl) ?_
          obtain ⟨a_31, ci_32, fs_33, x_34, er, he, hc, hv, hw⟩ := zgI_e hw
          refine zw_get hk hH er he hv (fk_X5_351 hc) dX5_number_83 ?_
          obtain ⟨a_139, ci_140, fs_141, er, he, hc, hw⟩ := zo_e hw
          obtain rfl := List.mem_singleton.mp hc
          refine zr_calli (zw_runV (As := [.int x_34]) hk hH hz hS hl.1 er hw (cwV 1 hts (lw_V q3086 q3088 qs95 q162 q3089) rfl rfl rfl (by decide +kernel) (z_room (Nat.le_of_ble_eq_true rfl))) he rfl rfl rfl (Nat.le_of_ble_eq_true rfl) dX5_number_86 ⟨Nat.le_of_ble_eq_true rfl, Nat.le_of_ble_eq_true rfl⟩) hS (fun x_37 hp_35 nx_36 hw H locs hH hz hS => ?_)
          refine lv_bipush (v := (46 : Int32)) hx hb dX5_number_89 (by decide) ?_
          refine lv_icmp_eq (tgt := 95) hx hb dX5_number_91 (by decide) (fun hc => ?_) (fun hc => ?_)
          · have hw := hw.1 hc
            refine zr_aload_n (r := some h0) hx hb dX5_number_95 rfl (lv_at hl 0 rfl) ?_
            refine lv_dup hx hb dX5_number_96 (z_cat _) ?_
            obtain ⟨a_38, ci_39, fs_40, x_41, er, he, hc, hv, hw⟩ := zgI_e hw
            refine zw_get hk hH er he hv (fk_X5_351 hc) dX5_number_97 ?_
            refine lv_iconst (v := (1 : Int32)) hx hb dX5_number_100 (by decide) ?_
            refine lv_iadd hx hb dX5_number_101 ?_
            obtain ⟨a_42, ci_43, fs_44, hp_45, er, he, hc, hA, hkl, eh, hw⟩ := zpt_e hw
            refine zw_put hk hH hz hS er he hA hkl eh (fp_X5_351 hc) rfl rfl dX5_number_102 (fun H locs hH hz hS => ?_)
            refine zr_aload_n (r := some h0) hx hb dX5_number_105 rfl (lv_at hl 0 rfl) ?_
            obtain ⟨a_46, ci_47, fs_48, x_49, er, he, hc, hv, hw⟩ := zgI_e hw
            refine zw_get hk hH er he hv (fk_X5_351 hc) dX5_number_106 ?_
            refine lv_istore_n (i := 1) (lv' := [(1, .int x_49), (0, va_rf (some h0))]) hx hb dX5_number_109 rfl hl (by decide) (by first | rfl | simp [List.filter_cons, z_cat, z_catI, z_catJ, z_catF, z_catD]) (fun ls hl => ?_)
            refine zr_aload_n (r := some h0) hx hb dX5_number_110 rfl (lv_at hl 1 rfl) ?_
            refine lv_iconst (v := (0 : Int32)) hx hb dX5_number_111 (by decide) ?_
            obtain ⟨a_50, ci_51, fs_52, hp_53, er, he, hc, hA, hkl, eh, hw⟩ := zpt_e hw
            refine zw_put hk hH hz hS er he hA hkl eh (fp_X5_391 hc) rfl rfl dX5_number_112 (fun H locs hH hz hS => ?_)
            obtain ⟨I_115, ⟨n_138, hI⟩, hB_115⟩ := hw
            have hL_115 : ∀ (n_57 : Nat) (x_54 : Int32) (hp_55 : zHp) (nx_56 : Nat) (H : Heap) (locs : List Loc) (ls : Array Slot), I_115 n_57 x_54 hp_55 nx_56 → lv_has ls 4 [(0, va_rf (some h0)), (1, .int x_54)] → zHd g hp_55 H → H.size = nx_56 → va_S (zAd g) s.heap H locs → W p l e (zrm (d + 1) 0 0) s m ([.ref h0] : List Value).toArray below meth c H locs 0 0 (MQ below (zQv g Post) ([.ref h0] : List Value).toArray s 0 0 (zAd g)) (F0 m 115 ls []) := by
              intro n_57
              induction n_57 using Nat.strongRecOn with
              | _ n_57 ih_115 =>
                intro x_54 hp_55 nx_56 H locs ls hw hl hH hz hS
                have hw := hB_115 n_57 x_54 hp_55 nx_56 hw
                refine zr_aload_n (r := some h0) hx hb dX5_number_115 rfl (lv_at hl 0 rfl) ?_
                obtain ⟨a_135, ci_136, fs_137, er, he, hc, hw⟩ := zo_e hw
                obtain rfl := List.mem_singleton.mp hc
                refine zr_calli (zw_runV (As := []) hk hH hz hS hl.1 er hw (cwV 0 hts (lw_V q3108 q3110 qs98 q162 q3111) rfl rfl rfl (by decide +kernel) (z_room (Nat.le_of_ble_eq_true rfl))) he rfl rfl rfl (Nat.le_of_ble_eq_true rfl) dX5_number_116 ⟨Nat.le_of_ble_eq_true rfl, Nat.le_of_ble_eq_true rfl⟩) hS (fun x_60 hp_58 nx_59 hw H locs hH hz hS => ?_)
                refine lv_if_eq (tgt := 168) hx hb dX5_number_119 (by decide) (fun hc => ?_) (fun hc => ?_)
                · have hw := hw.1 hc
                  refine zr_aload_n (r := some h0) hx hb dX5_number_168 rfl (lv_at hl 0 rfl) ?_
                  obtain ⟨a_61, ci_62, fs_63, x_64, er, he, hc, hv, hw⟩ := zgI_e hw
                  refine zw_get hk hH er he hv (fk_X5_351 hc) dX5_number_169 ?_
                  refine lv_iload_n hx hb dX5_number_172 rfl (lv_at hl 1 rfl) ?_
                  refine lv_isub hx hb dX5_number_173 ?_
                  refine lv_topi (fun x_65 ex_65 => ?_)
                  have hw := hw x_65 ex_65
                  refine lv_istore_n (i := 2) (lv' := [(2, .int x_65), (0, va_rf (some h0)), (1, .int x_54)]) hx hb dX5_number_174 rfl hl (by decide) (by first | rfl | simp [List.filter_cons, z_cat, z_catI, z_catJ, z_catF, z_catD]) (fun ls hl => ?_)
                  refine zr_aload_n (r := some h0) hx hb dX5_number_175 rfl (lv_at hl 1 rfl) ?_
                  refine lv_dup hx hb dX5_number_176 (z_cat _) ?_
                  obtain ⟨a_66, ci_67, fs_68, x_69, er, he, hc, hv, hw⟩ := zgI_e hw
                  refine zw_get hk hH er he hv (fk_X5_357 hc) dX5_number_177 ?_
                  refine lv_iload_n hx hb dX5_number_180 rfl (lv_at hl 0 rfl) ?_
                  refine lv_iconst (v := (1 : Int32)) hx hb dX5_number_181 (by decide) ?_
                  refine lv_iconst (v := (3 : Int32)) hx hb dX5_number_182 (by decide) ?_
                  refine zr_calli (zr_runS (As := [.int x_65, .int (1 : Int32), .int (3 : Int32)]) hk hH hz hS hl.1 hw (va_cwS 3 hts (lw_S q2911 q2912 q162 q2913) rfl rfl rfl (by decide +kernel) (z_room (Nat.le_of_ble_eq_true rfl))) rfl rfl (by simp only [List.map_cons, List.map_nil, z_cat]; exact Nat.le_of_ble_eq_true rfl) dX5_number_183 ⟨Nat.le_of_ble_eq_true rfl, Nat.le_of_ble_eq_true rfl⟩) hS (fun x_72 hp_70 nx_71 hw H locs hH hz hS => ?_)
                  obtain ⟨P_194, hP_194, hw⟩ := hw
                  have hJ_194 : ∀ (x_73 : Int32) (x_74 : Int32) (r_75 : Option Nat) (x_76 : Int32) (x_77 : Int32) (hp_78 : zHp) (nx_79 : Nat) (H : Heap) (locs : List Loc) (ls : Array Slot), P_194 x_73 x_74 r_75 x_76 x_77 hp_78 nx_79 → lv_has ls 4 [(0, va_rf (some h0)), (1, .int x_73), (2, .int x_74)] → zHd g hp_78 H → H.size = nx_79 → va_S (zAd g) s.heap H locs → W p l e (zrm (d + 1) 0 0) s m ([.ref h0] : List Value).toArray below meth c H locs 0 0 (MQ below (zQv g Post) ([.ref h0] : List Value).toArray s 0 0 (zAd g)) (F0 m 194 ls [.int x_77, .int x_76, va_rf r_75]) := by
                    intro x_73 x_74 r_75 x_76 x_77 hp_78 nx_79 H locs ls hw hl hH hz hS
                    have hw := hP_194 x_73 x_74 r_75 x_76 x_77 hp_78 nx_79 hw
                    refine lv_ior hx hb dX5_number_194 ?_
                    obtain ⟨hbo, hw⟩ := hw
                    obtain ⟨a_80, ci_81, fs_82, hp_83, er, he, hc, hA, hkl, eh, hw⟩ := zpt_e hw
                    refine zw_put hk hH hz hS er he hA hkl eh (fp_X5_357 hc) (z_nb hbo) (z_fb hbo) dX5_number_195 (fun H locs hH hz hS => ?_)
                    refine lv_iload_n hx hb dX5_number_198 rfl (lv_at hl 2 rfl) ?_
                    refine lv_istore_n (i := 3) (lv' := [(3, .int x_74), (0, va_rf (some h0)), (1, .int x_73), (2, .int x_74)]) hx hb dX5_number_199 rfl hl (by decide) (by first | rfl | simp [List.filter_cons, z_cat, z_catI, z_catJ, z_catF, z_catD]) (fun ls hl => ?_)
                    obtain ⟨I_200, ⟨n_100, hI⟩, hB_200⟩ := hw
                    have hL_200 : ∀ (n_89 : Nat) (x_84 : Int32) (x_85 : Int32) (x_86 : Int32) (hp_87 : zHp) (nx_88 : Nat) (H : Heap) (locs : List Loc) (ls : Array Slot), I_200 n_89 x_84 x_85 x_86 hp_87 nx_88 → lv_has ls 4 [(0, va_rf (some h0)), (1, .int x_84), (2, .int x_85), (3, .int x_86)] → zHd g hp_87 H → H.size = nx_88 → va_S (zAd g) s.heap H locs → W p l e (zrm (d + 1) 0 0) s m ([.ref h0] : List Value).toArray below meth c H locs 0 0 (MQ below (zQv g Post) ([.ref h0] : List Value).toArray s 0 0 (zAd g)) (F0 m 200 ls []) := by
                      intro n_89
                      induction n_89 using Nat.strongRecOn with
                      | _ n_89 ih_200 =>
                        intro x_84 x_85 x_86 hp_87 nx_88 H locs ls hw hl hH hz hS
                        have hw := hB_200 n_89 x_84 x_85 x_86 hp_87 nx_88 hw
                        refine lv_iload_n hx hb dX5_number_200 rfl (lv_at hl 3 rfl) ?_
                        refine lv_iconst (v := (3 : Int32)) hx hb dX5_number_201 (by decide) ?_
                        refine lv_icmp_ge (tgt := 222) hx hb dX5_number_202 (by decide) (fun hc => ?_) (fun hc => ?_)
                        · have hw := hw.1 hc
                          exact zr_vret hk hr hH hz hS hw (Nat.le_of_ble_eq_true rfl) (Nat.le_of_ble_eq_true rfl) dX5_number_222
                        · have hw := hw.2 hc
                          refine zr_aload_n (r := some h0) hx hb dX5_number_205 rfl (lv_at hl 0 rfl) ?_
                          refine lv_dup hx hb dX5_number_206 (z_cat _) ?_
                          obtain ⟨a_90, ci_91, fs_92, x_93, er, he, hc, hv, hw⟩ := zgI_e hw
                          refine zw_get hk hH er he hv (fk_X5_391 hc) dX5_number_207 ?_
                          refine lv_bipush (v := (10 : Int32)) hx hb dX5_number_210 (by decide) ?_
                          refine lv_imul hx hb dX5_number_212 ?_
                          obtain ⟨a_94, ci_95, fs_96, hp_97, er, he, hc, hA, hkl, eh, hw⟩ := zpt_e hw
                          refine zw_put hk hH hz hS er he hA hkl eh (fp_X5_391 hc) rfl rfl dX5_number_213 (fun H locs hH hz hS => ?_)
                          obtain ⟨x_98, ex_98⟩ : ∃ y : Int32, y = x_86 + (1 : Int32) := ⟨_, rfl⟩
                          have hw := hw x_98 ex_98
                          refine lv_iinc (v := x_98) (lv' := [(3, .int x_98), (0, va_rf (some h0)), (1, .int x_84), (2, .int x_85)]) hx hb dX5_number_216 hl (k := 3) rfl (by rw [ex_98]; rfl) (by decide) (by first | rfl | simp [List.filter_cons, z_cat, z_catI, z_catJ, z_catF, z_catD]) (fun ls hl => ?_)
                          refine lv_goto (tgt := 200) hx hb dX5_number_219 (by decide) ?_
                          obtain ⟨k_99, hlt, hw⟩ := hw
                          exact ih_200 k_99 hlt x_84 x_85 x_98 hp_97 nx_88 _ _ _ hw (lv_sub hl [1, 2, 3, 0] rfl) hH hz hS
                    exact hL_200 n_100 x_73 x_74 x_74 hp_83 nx_79 _ _ _ hI (lv_sub hl [1, 2, 3, 0] rfl) hH hz hS
                  refine lv_if_ne (tgt := 193) hx hb dX5_number_186 (by decide) (fun hc => ?_) (fun hc => ?_)
                  · have hw := hw.2 hc
                    refine lv_iconst (v := (0 : Int32)) hx hb dX5_number_193 (by decide) ?_
                    exact hJ_194 x_54 x_65 (some h0) x_69 (0 : Int32) hp_70 nx_71 _ _ _ hw (lv_sub hl [1, 2, 0] rfl) hH hz hS
                  · have hw := hw.1 hc
                    refine lv_iconst (v := (1 : Int32)) hx hb dX5_number_189 (by decide) ?_
                    refine lv_goto (tgt := 194) hx hb dX5_number_190 (by decide) ?_
                    exact hJ_194 x_54 x_65 (some h0) x_69 (1 : Int32) hp_70 nx_71 _ _ _ hw (lv_sub hl [1, 2, 0] rfl) hH hz hS
                · have hw := hw.2 hc
                  refine zr_aload_n (r := some h0) hx hb dX5_number_122 rfl (lv_at hl 0 rfl) ?_
                  obtain ⟨a_101, ci_102, fs_103, x_104, er, he, hc, hv, hw⟩ := zgI_e hw
                  refine zw_get hk hH er he hv (fk_X5_351 hc) dX5_number_123 ?_
                  refine lv_iload_n hx hb dX5_number_126 rfl (lv_at hl 1 rfl) ?_
                  refine lv_isub hx hb dX5_number_127 ?_
                  refine lv_iconst (v := (3 : Int32)) hx hb dX5_number_128 (by decide) ?_
                  obtain ⟨P_155, hP_155, hw⟩ := hw
                  have hJ_155 : ∀ (x_105 : Int32) (hp_106 : zHp) (nx_107 : Nat) (H : Heap) (locs : List Loc) (ls : Array Slot), P_155 x_105 hp_106 nx_107 → lv_has ls 4 [(0, va_rf (some h0)), (1, .int x_105)] → zHd g hp_106 H → H.size = nx_107 → va_S (zAd g) s.heap H locs → W p l e (zrm (d + 1) 0 0) s m ([.ref h0] : List Value).toArray below meth c H locs 0 0 (MQ below (zQv g Post) ([.ref h0] : List Value).toArray s 0 0 (zAd g)) (F0 m 155 ls []) := by
                    intro x_105 hp_106 nx_107 H locs ls hw hl hH hz hS
                    have hw := hP_155 x_105 hp_106 nx_107 hw
                    refine zr_aload_n (r := some h0) hx hb dX5_number_155 rfl (lv_at hl 0 rfl) ?_
                    refine lv_dup hx hb dX5_number_156 (z_cat _) ?_
                    obtain ⟨a_108, ci_109, fs_110, x_111, er, he, hc, hv, hw⟩ := zgI_e hw
                    refine zw_get hk hH er he hv (fk_X5_351 hc) dX5_number_157 ?_
                    refine lv_iconst (v := (1 : Int32)) hx hb dX5_number_160 (by decide) ?_
                    refine lv_iadd hx hb dX5_number_161 ?_
                    obtain ⟨a_112, ci_113, fs_114, hp_115, er, he, hc, hA, hkl, eh, hw⟩ := zpt_e hw
                    refine zw_put hk hH hz hS er he hA hkl eh (fp_X5_351 hc) rfl rfl dX5_number_162 (fun H locs hH hz hS => ?_)
                    refine lv_goto (tgt := 115) hx hb dX5_number_165 (by decide) ?_
                    obtain ⟨k_116, hlt, hw⟩ := hw
                    exact ih_115 k_116 hlt x_105 hp_115 nx_107 _ _ _ hw hl hH hz hS
                  refine lv_icmp_ge (tgt := 155) hx hb dX5_number_129 (by decide) (fun hc => ?_) (fun hc => ?_)
                  · have hw := hw.1 hc
                    exact hJ_155 x_54 hp_58 nx_59 _ _ _ hw hl hH hz hS
                  · have hw := hw.2 hc
                    refine zr_aload_n (r := some h0) hx hb dX5_number_132 rfl (lv_at hl 0 rfl) ?_
                    refine lv_bipush (v := (10 : Int32)) hx hb dX5_number_133 (by decide) ?_
                    refine zr_aload_n (r := some h0) hx hb dX5_number_135 rfl (lv_at hl 0 rfl) ?_
                    obtain ⟨a_117, ci_118, fs_119, x_120, er, he, hc, hv, hw⟩ := zgI_e hw
                    refine zw_get hk hH er he hv (fk_X5_391 hc) dX5_number_136 ?_
                    refine lv_imul hx hb dX5_number_139 ?_
                    refine zr_aload_n (r := some h0) hx hb dX5_number_140 rfl (lv_at hl 0 rfl) ?_
                    refine zr_aload_n (r := some h0) hx hb dX5_number_141 rfl (lv_at hl 0 rfl) ?_
                    obtain ⟨a_121, ci_122, fs_123, x_124, er, he, hc, hv, hw⟩ := zgI_e hw
                    refine zw_get hk hH er he hv (fk_X5_351 hc) dX5_number_142 ?_
                    obtain ⟨a_132, ci_133, fs_134, er, he, hc, hw⟩ := zo_e hw
                    obtain rfl := List.mem_singleton.mp hc
                    refine zr_calli (zw_runV (As := [.int x_124]) hk hH hz hS hl.1 er hw (cwV 1 hts (lw_V q3086 q3088 qs95 q162 q3089) rfl rfl rfl (by decide +kernel) (z_room (Nat.le_of_ble_eq_true rfl))) he rfl rfl rfl (by simp only [List.map_cons, List.map_nil, z_cat]; exact Nat.le_of_ble_eq_true rfl) dX5_number_145 ⟨Nat.le_of_ble_eq_true rfl, Nat.le_of_ble_eq_true rfl⟩) hS (fun x_127 hp_125 nx_126 hw H locs hH hz hS => ?_)
                    refine lv_iadd hx hb dX5_number_148 ?_
                    refine lv_bipush (v := (48 : Int32)) hx hb dX5_number_149 (by decide) ?_
                    refine lv_isub hx hb dX5_number_151 ?_
                    obtain ⟨a_128, ci_129, fs_130, hp_131, er, he, hc, hA, hkl, eh, hw⟩ := zpt_e hw
                    refine zw_put hk hH hz hS er he hA hkl eh (fp_X5_391 hc) rfl rfl dX5_number_152 (fun H locs hH hz hS => ?_)
                    exact hJ_155 x_54 hp_131 nx_126 _ _ _ hw hl hH hz hS
            exact hL_115 n_138 x_49 hp_53 nx_36 _ _ _ hI (lv_sub hl [1, 0] rfl) hH hz hS
          · have hw := hw.2 hc
            exact zr_vret hk hr hH hz hS hw (Nat.le_of_ble_eq_true rfl) (Nat.le_of_ble_eq_true rfl) dX5_number_94
        refine lv_icmp_le (tgt := 77) hx hb dX5_number_70 (by decide) (fun hc => ?_) (fun hc => ?_)
        · have hw := hw.1 hc
          refine lv_iconst (v := (0 : Int32)) hx hb dX5_number_77 (by decide) ?_
          exact hJ_78 (some h0) (0 : Int32) hp_12 nx_13 _ _ _ hw hl hH hz hS
        · have hw := hw.2 hc
          refine lv_iconst (v := (1 : Int32)) hx hb dX5_number_73 (by decide) ?_
          refine lv_goto (tgt := 78) hx hb dX5_number_74 (by decide) ?_
          exact hJ_78 (some h0) (1 : Int32) hp_12 nx_13 _ _ _ hw hl hH hz hS
      · have hw := hw.2 hc
        refine zr_aload_n (r := some h0) hx hb dX5_number_17 rfl (lv_at hl 0 rfl) ?_
        refine lv_ldcw hx hb hown (hts _ q3116) dX5_number_18 ?_
        refine lv_bipush (v := (10 : Int32)) hx hb dX5_number_21 (by decide) ?_
        refine zr_aload_n (r := some h0) hx hb dX5_number_23 rfl (lv_at hl 0 rfl) ?_
        obtain ⟨a_142, ci_143, fs_144, x_145, er, he, hc, hv, hw⟩ := zgI_e hw
        refine zw_get hk hH er he hv (fk_X5_388 hc) dX5_number_24 ?_
        refine lv_imul hx hb dX5_number_27 ?_
        refine zr_aload_n (r := some h0) hx hb dX5_number_28 rfl (lv_at hl 0 rfl) ?_
        refine zr_aload_n (r := some h0) hx hb dX5_number_29 rfl (lv_at hl 0 rfl) ?_
        obtain ⟨a_146, ci_147, fs_148, x_149, er, he, hc, hv, hw⟩ := zgI_e hw
        refine zw_get hk hH er he hv (fk_X5_351 hc) dX5_number_30 ?_
        obtain ⟨a_169, ci_170, fs_171, er, he, hc, hw⟩ := zo_e hw
        obtain rfl := List.mem_singleton.mp hc
        refine zr_calli (zw_runV (As := [.int x_149]) hk hH hz hS hl.1 er hw (cwV 1 hts (lw_V q3086 q3088 qs95 q162 q3089) rfl rfl rfl (by decide +kernel) (z_room (Nat.le_of_ble_eq_true rfl))) he rfl rfl rfl (by simp only [List.map_cons, List.map_nil, z_cat]; exact Nat.le_of_ble_eq_true rfl) dX5_number_33 ⟨Nat.le_of_ble_eq_true rfl, Nat.le_of_ble_eq_true rfl⟩) hS (fun x_152 hp_150 nx_151 hw H locs hH hz hS => ?_)
        refine lv_iadd hx hb dX5_number_36 ?_
        refine lv_bipush (v := (48 : Int32)) hx hb dX5_number_37 (by decide) ?_
        refine lv_isub hx hb dX5_number_39 ?_
        refine zr_calli (zr_runS (As := [.int (100000 : Int32), .int ((((10 : Int32) * x_145) + x_152) - (48 : Int32))]) hk hH hz hS hl.1 hw (va_cwS 2 hts (lw_S q2990 q428 q143 q429) rfl rfl rfl (by decide +kernel) (z_room (Nat.le_of_ble_eq_true rfl))) rfl rfl (by simp only [List.map_cons, List.map_nil, z_cat]; exact Nat.le_of_ble_eq_true rfl) dX5_number_40 ⟨Nat.le_of_ble_eq_true rfl, Nat.le_of_ble_eq_true rfl⟩) hS (fun x_155 hp_153 nx_154 hw H locs hH hz hS => ?_)
        obtain ⟨a_156, ci_157, fs_158, hp_159, er, he, hc, hA, hkl, eh, hw⟩ := zpt_e hw
        refine zw_put hk hH hz hS er he hA hkl eh (fp_X5_388 hc) rfl rfl dX5_number_43 (fun H locs hH hz hS => ?_)
        refine zr_aload_n (r := some h0) hx hb dX5_number_46 rfl (lv_at hl 0 rfl) ?_
        refine lv_dup hx hb dX5_number_47 (z_cat _) ?_
        obtain ⟨a_160, ci_161, fs_162, x_163, er, he, hc, hv, hw⟩ := zgI_e hw
        refine zw_get hk hH er he hv (fk_X5_351 hc) dX5_number_48 ?_
        refine lv_iconst (v := (1 : Int32)) hx hb dX5_number_51 (by decide) ?_
        refine lv_iadd hx hb dX5_number_52 ?_
        obtain ⟨a_164, ci_165, fs_166, hp_167, er, he, hc, hA, hkl, eh, hw⟩ := zpt_e hw
        refine zw_put hk hH hz hS er he hA hkl eh (fp_X5_351 hc) rfl rfl dX5_number_53 (fun H locs hH hz hS => ?_)
        refine lv_goto (tgt := 10) hx hb dX5_number_56 (by decide) ?_
        obtain ⟨k_168, hlt, hw⟩ := hw
        exact ih_10 k_168 hlt hp_167 nx_154 _ _ _ hw hl hH hz hS
  exact hL_10 n_175 hp_8 nx _ _ _ hI hl hH hz hS
def wp_X5_all (l : Launch) (g : zG) (d : Nat) (h0 : Nat) (hp : zHp) (nx : Nat) (Post : zHp → Nat → Prop) : Prop :=
  (zo hp (some h0) [5] fun a_41 ci_42 fs_43 => zMt l g yX5_sum cX5_sum 2 none d 0 0 (.ref a_41 :: []) hp nx (zQv g fun hp_1 nx_2 =>
  (zo hp_1 (some h0) [5] fun a_38 ci_39 fs_40 => zMt l g yX5_isSign cX5_isSign 2 (some .boolean) d 0 0 (.ref a_38 :: [.int (60 : Int32)]) hp_1 nx_2 (zQi g fun x_5 hp_3 nx_4 =>
  (∃ P_23 : zHp → Nat → Prop, (∀ (hp_6 : zHp) (nx_7 : Nat), P_23 hp_6 nx_7 →
  (zo hp_6 (some h0) [5] fun a_29 ci_30 fs_31 => zMt l g yX5_isSign cX5_isSign 2 (some .boolean) d 0 0 (.ref a_29 :: [.int (60 : Int32)]) hp_6 nx_7 (zQi g fun x_10 hp_8 nx_9 =>
  (∃ P_41 : Int32 → zHp → Nat → Prop, (∀ (x_11 : Int32) (hp_12 : zHp) (nx_13 : Nat), P_41 x_11 hp_12 nx_13 →
  (zo hp_12 (some h0) [5] fun a_26 ci_27 fs_28 => zMt l g yX5_next cX5_next 1 none d 0 0 (.ref a_26 :: []) hp_12 nx_13 (zQv g fun hp_14 nx_15 =>
  (zo hp_14 (some h0) [5] fun a_23 ci_24 fs_25 => zMt l g yX5_sum cX5_sum 2 none d 0 0 (.ref a_23 :: []) hp_14 nx_15 (zQv g fun hp_16 nx_17 =>
  (zo hp_16 (some h0) [5] fun a_20 ci_21 fs_22 => zMt l g yX5_mark cX5_mark 2 none d 0 0 (.ref a_20 :: [.int x_11]) hp_16 nx_17 (zQv g fun hp_18 nx_19 =>
  (Post hp_18 nx_19)))))))) ∧
  ((x_10 = 0 →
  P_41 (207 : Int32) hp_8 nx_9) ∧
  (¬ x_10 = 0 →
  P_41 (206 : Int32) hp_8 nx_9)))))) ∧
  ((x_5 = 0 →
  (zo hp_3 (some h0) [5] fun a_35 ci_36 fs_37 => zMt l g yX5_isSign cX5_isSign 2 (some .boolean) d 0 0 (.ref a_35 :: [.int (61 : Int32)]) hp_3 nx_4 (zQi g fun x_34 hp_32 nx_33 =>
  ((x_34 = 0 →
  (Post hp_32 nx_33)) ∧
  (¬ x_34 = 0 →
  P_23 hp_32 nx_33))))) ∧
  (¬ x_5 = 0 →
  P_23 hp_3 nx_4)))))))
set_option maxHeartbeats 40000000 in
theorem met_X5_all {l : Launch} {g : zG} {d : Nat} {h0 : Nat} {hp : zHp} {nx : Nat} {Post : zHp → Nat → Prop} (hw : wp_X5_all l g d h0 hp nx Post) : zMt l g yX5_all cX5_all 2 none (d + 1) 0 0 [.ref h0] hp nx (zQv g Post) := by
  refine z_start (by decide) (Nat.le_of_ble_eq_true rfl) ?_
  intro p e s m below meth c hk hr hin hH hz ls hl
  have hx := hk.1.1
  have hb := hk.1.2.1
  have hown := hk.1.2.2.2.1
  have hts := hk.1.2.2.2.2
  have hS : va_S (zAd g) s.heap s.heap [] := va_S.rf
  have hl : lv_has ls 2 [(0, va_rf (some h0))] := hl
  unfold wp_X5_all at hw
  refine zr_aload_n (r := some h0) hx hb dX5_all_0 rfl (lv_at hl 0 rfl) ?_
  obtain ⟨a_41, ci_42, fs_43, er, he, hc, hw⟩ := zo_e hw
  obtain rfl := List.mem_singleton.mp hc
  refine zr_callv (zw_runV (As := []) hk hH hz hS hl.1 er hw (cwV 0 hts (lw_V q3123 q3125 qs101 q162 q3126) rfl rfl rfl (by decide +kernel) (z_room (Nat.le_of_ble_eq_true rfl))) he rfl rfl rfl (Nat.le_of_ble_eq_true rfl) dX5_all_1 ⟨Nat.le_of_ble_eq_true rfl, Nat.le_of_ble_eq_true rfl⟩) hS (fun hp_1 nx_2 hw H locs hH hz hS => ?_)
  refine zr_aload_n (r := some h0) hx hb dX5_all_4 rfl (lv_at hl 0 rfl) ?_
  refine lv_bipush (v := (60 : Int32)) hx hb dX5_all_5 (by decide) ?_
  obtain ⟨a_38, ci_39, fs_40, er, he, hc, hw⟩ := zo_e hw
  obtain rfl := List.mem_singleton.mp hc
  refine zr_calli (zw_runV (As := [.int (60 : Int32)]) hk hH hz hS hl.1 er hw (cwV 1 hts (lw_V q3147 q3149 qs107 q162 q3150) rfl rfl rfl (by decide +kernel) (z_room (Nat.le_of_ble_eq_true rfl))) he rfl rfl rfl (Nat.le_of_ble_eq_true rfl) dX5_all_7 ⟨Nat.le_of_ble_eq_true rfl, Nat.le_of_ble_eq_true rfl⟩) hS (fun x_5 hp_3 nx_4 hw H locs hH hz hS => ?_)
  obtain ⟨P_23, hP_23, hw⟩ := hw
  have hJ_23 : ∀ (hp_6 : zHp) (nx_7 : Nat) (H : Heap) (locs : List Loc) (ls : Array Slot), P_23 hp_6 nx_7 → lv_has ls 2 [(0, va_rf (some h0))] → zHd g hp_6 H → H.size = nx_7 → va_S (zAd g) s.heap H locs → W p l e (zrm (d + 1) 0 0) s m ([.ref h0] : List Value).toArray below meth c H locs 0 0 (MQ below (zQv g Post) ([.ref h0] : List Value).toArray s 0 0 (zAd g)) (F0 m 23 ls []) := by
    intro hp_6 nx_7 H locs ls hw hl hH hz hS
    have hw := hP_23 hp_6 nx_7 hw
    refine zr_aload_n (r := some h0) hx hb dX5_all_23 rfl (lv_at hl 0 rfl) ?_
    refine lv_bipush (v := (60 : Int32)) hx hb dX5_all_24 (by decide) ?_
    obtain ⟨a_29, ci_30, fs_31, er, he, hc, hw⟩ := zo_e hw
    obtain rfl := List.mem_singleton.mp hc
    refine zr_calli (zw_runV (As := [.int (60 : Int32)]) hk hH hz hS hl.1 er hw (cwV 1 hts (lw_V q3147 q3149 qs107 q162 q3150) rfl rfl rfl (by decide +kernel) (z_room (Nat.le_of_ble_eq_true rfl))) he rfl rfl rfl (Nat.le_of_ble_eq_true rfl) dX5_all_26 ⟨Nat.le_of_ble_eq_true rfl, Nat.le_of_ble_eq_true rfl⟩) hS (fun x_10 hp_8 nx_9 hw H locs hH hz hS => ?_)
    obtain ⟨P_41, hP_41, hw⟩ := hw
    have hJ_41 : ∀ (x_11 : Int32) (hp_12 : zHp) (nx_13 : Nat) (H : Heap) (locs : List Loc) (ls : Array Slot), P_41 x_11 hp_12 nx_13 → lv_has ls 2 [(0, va_rf (some h0))] → zHd g hp_12 H → H.size = nx_13 → va_S (zAd g) s.heap H locs → W p l e (zrm (d + 1) 0 0) s m ([.ref h0] : List Value).toArray below meth c H locs 0 0 (MQ below (zQv g Post) ([.ref h0] : List Value).toArray s 0 0 (zAd g)) (F0 m 41 ls [.int x_11]) := by
      intro x_11 hp_12 nx_13 H locs ls hw hl hH hz hS
      have hw := hP_41 x_11 hp_12 nx_13 hw
      refine lv_istore_n (i := 1) (lv' := [(1, .int x_11), (0, va_rf (some h0))]) hx hb dX5_all_41 rfl hl (by decide) (by first | rfl | simp [List.filter_cons, z_cat, z_catI, z_catJ, z_catF, z_catD]) (fun ls hl => ?_)
      refine zr_aload_n (r := some h0) hx hb dX5_all_42 rfl (lv_at hl 1 rfl) ?_
      obtain ⟨a_26, ci_27, fs_28, er, he, hc, hw⟩ := zo_e hw
      obtain rfl := List.mem_singleton.mp hc
      refine zr_callv (zw_runV (As := []) hk hH hz hS hl.1 er hw (cwV 0 hts (lw_V q3082 q3084 qs94 q162 q3085) rfl rfl rfl (by decide +kernel) (z_room (Nat.le_of_ble_eq_true rfl))) he rfl rfl rfl (Nat.le_of_ble_eq_true rfl) dX5_all_43 ⟨Nat.le_of_ble_eq_true rfl, Nat.le_of_ble_eq_true rfl⟩) hS (fun hp_14 nx_15 hw H locs hH hz hS => ?_)
      refine zr_aload_n (r := some h0) hx hb dX5_all_46 rfl (lv_at hl 1 rfl) ?_
      obtain ⟨a_23, ci_24, fs_25, er, he, hc, hw⟩ := zo_e hw
      obtain rfl := List.mem_singleton.mp hc
      refine zr_callv (zw_runV (As := []) hk hH hz hS hl.1 er hw (cwV 0 hts (lw_V q3123 q3125 qs101 q162 q3126) rfl rfl rfl (by decide +kernel) (z_room (Nat.le_of_ble_eq_true rfl))) he rfl rfl rfl (Nat.le_of_ble_eq_true rfl) dX5_all_47 ⟨Nat.le_of_ble_eq_true rfl, Nat.le_of_ble_eq_true rfl⟩) hS (fun hp_16 nx_17 hw H locs hH hz hS => ?_)
      refine zr_aload_n (r := some h0) hx hb dX5_all_50 rfl (lv_at hl 1 rfl) ?_
      refine lv_iload_n hx hb dX5_all_51 rfl (lv_at hl 0 rfl) ?_
      obtain ⟨a_20, ci_21, fs_22, er, he, hc, hw⟩ := zo_e hw
      obtain rfl := List.mem_singleton.mp hc
      refine zr_callv (zw_runV (As := [.int x_11]) hk hH hz hS hl.1 er hw (cwV 1 hts (lw_V q3135 q3137 qs104 q162 q3138) rfl rfl rfl (by decide +kernel) (z_room (Nat.le_of_ble_eq_true rfl))) he rfl rfl rfl (Nat.le_of_ble_eq_true rfl) dX5_all_52 ⟨Nat.le_of_ble_eq_true rfl, Nat.le_of_ble_eq_true rfl⟩) hS (fun hp_18 nx_19 hw H locs hH hz hS => ?_)
      exact zr_vret hk hr hH hz hS hw (Nat.le_of_ble_eq_true rfl) (Nat.le_of_ble_eq_true rfl) dX5_all_55
    refine lv_if_eq (tgt := 38) hx hb dX5_all_29 (by decide) (fun hc => ?_) (fun hc => ?_)
    · have hw := hw.1 hc
      refine lv_sipush (v := (207 : Int32)) hx hb dX5_all_38 (by decide) ?_
      exact hJ_41 (207 : Int32) hp_8 nx_9 _ _ _ hw hl hH hz hS
    · have hw := hw.2 hc
      refine lv_sipush (v := (206 : Int32)) hx hb dX5_all_32 (by decide) ?_
      refine lv_goto (tgt := 41) hx hb dX5_all_35 (by decide) ?_
      exact hJ_41 (206 : Int32) hp_8 nx_9 _ _ _ hw hl hH hz hS
  refine lv_if_ne (tgt := 23) hx hb dX5_all_10 (by decide) (fun hc => ?_) (fun hc => ?_)
  · have hw := hw.2 hc
    exact hJ_23 hp_3 nx_4 _ _ _ hw hl hH hz hS
  · have hw := hw.1 hc
    refine zr_aload_n (r := some h0) hx hb dX5_all_13 rfl (lv_at hl 0 rfl) ?_
    refine lv_bipush (v := (61 : Int32)) hx hb dX5_all_14 (by decide) ?_
    obtain ⟨a_35, ci_36, fs_37, er, he, hc, hw⟩ := zo_e hw
    obtain rfl := List.mem_singleton.mp hc
    refine zr_calli (zw_runV (As := [.int (61 : Int32)]) hk hH hz hS hl.1 er hw (cwV 1 hts (lw_V q3147 q3149 qs107 q162 q3150) rfl rfl rfl (by decide +kernel) (z_room (Nat.le_of_ble_eq_true rfl))) he rfl rfl rfl (Nat.le_of_ble_eq_true rfl) dX5_all_16 ⟨Nat.le_of_ble_eq_true rfl, Nat.le_of_ble_eq_true rfl⟩) hS (fun x_34 hp_32 nx_33 hw H locs hH hz hS => ?_)
    refine lv_if_ne (tgt := 23) hx hb dX5_all_19 (by decide) (fun hc => ?_) (fun hc => ?_)
    · have hw := hw.2 hc
      exact hJ_23 hp_32 nx_33 _ _ _ hw hl hH hz hS
    · have hw := hw.1 hc
      exact zr_vret hk hr hH hz hS hw (Nat.le_of_ble_eq_true rfl) (Nat.le_of_ble_eq_true rfl) dX5_all_22
def wp_X5_sum (l : Launch) (g : zG) (d : Nat) (h0 : Nat) (hp : zHp) (nx : Nat) (Post : zHp → Nat → Prop) : Prop :=
  (zo hp (some h0) [5] fun a_46 ci_47 fs_48 => zMt l g yX5_term cX5_term 2 none d 0 0 (.ref a_46 :: []) hp nx (zQv g fun hp_1 nx_2 =>
  (∃ I_4 : Nat → zHp → Nat → Prop, (∃ n_45, I_4 n_45 hp_1 nx_2) ∧ ∀ (n_5 : Nat) (hp_3 : zHp) (nx_4 : Nat), I_4 n_5 hp_3 nx_4 →
  (zo hp_3 (some h0) [5] fun a_42 ci_43 fs_44 => zMt l g yX5_isSign cX5_isSign 2 (some .boolean) d 0 0 (.ref a_42 :: [.int (43 : Int32)]) hp_3 nx_4 (zQi g fun x_8 hp_6 nx_7 =>
  (∃ P_22 : zHp → Nat → Prop, (∀ (hp_9 : zHp) (nx_10 : Nat), P_22 hp_9 nx_10 →
  (zo hp_9 (some h0) [5] fun a_33 ci_34 fs_35 => zMt l g yX5_isSign cX5_isSign 2 (some .boolean) d 0 0 (.ref a_33 :: [.int (43 : Int32)]) hp_9 nx_10 (zQi g fun x_13 hp_11 nx_12 =>
  (∃ P_40 : Int32 → zHp → Nat → Prop, (∀ (x_14 : Int32) (hp_15 : zHp) (nx_16 : Nat), P_40 x_14 hp_15 nx_16 →
  (zo hp_15 (some h0) [5] fun a_30 ci_31 fs_32 => zMt l g yX5_next cX5_next 1 none d 0 0 (.ref a_30 :: []) hp_15 nx_16 (zQv g fun hp_17 nx_18 =>
  (zo hp_17 (some h0) [5] fun a_27 ci_28 fs_29 => zMt l g yX5_term cX5_term 2 none d 0 0 (.ref a_27 :: []) hp_17 nx_18 (zQv g fun hp_19 nx_20 =>
  (zo hp_19 (some h0) [5] fun a_24 ci_25 fs_26 => zMt l g yX5_mark cX5_mark 2 none d 0 0 (.ref a_24 :: [.int x_14]) hp_19 nx_20 (zQv g fun hp_21 nx_22 =>
  (∃ k_23, k_23 < n_5 ∧ I_4 k_23 hp_21 nx_22)))))))) ∧
  ((x_13 = 0 →
  P_40 (202 : Int32) hp_11 nx_12) ∧
  (¬ x_13 = 0 →
  P_40 (201 : Int32) hp_11 nx_12)))))) ∧
  ((x_8 = 0 →
  (zo hp_6 (some h0) [5] fun a_39 ci_40 fs_41 => zMt l g yX5_isSign cX5_isSign 2 (some .boolean) d 0 0 (.ref a_39 :: [.int (45 : Int32)]) hp_6 nx_7 (zQi g fun x_38 hp_36 nx_37 =>
  ((x_38 = 0 →
  (Post hp_36 nx_37)) ∧
  (¬ x_38 = 0 →
  P_22 hp_36 nx_37))))) ∧
  (¬ x_8 = 0 →
  P_22 hp_6 nx_7))))))))
set_option maxHeartbeats 40000000 in
theorem met_X5_sum {l : Launch} {g : zG} {d : Nat} {h0 : Nat} {hp : zHp} {nx : Nat} {Post : zHp → Nat → Prop} (hw : wp_X5_sum l g d h0 hp nx Post) : zMt l g yX5_sum cX5_sum 2 none (d + 1) 0 0 [.ref h0] hp nx (zQv g Post) := by
  refine z_start (by decide) (Nat.le_of_ble_eq_true rfl) ?_
  intro p e s m below meth c hk hr hin hH hz ls hl
  have hx := hk.1.1
  have hb := hk.1.2.1
  have hown := hk.1.2.2.2.1
  have hts := hk.1.2.2.2.2
  have hS : va_S (zAd g) s.heap s.heap [] := va_S.rf
  have hl : lv_has ls 2 [(0, va_rf (some h0))] := hl
  unfold wp_X5_sum at hw
  refine zr_aload_n (r := some h0) hx hb dX5_sum_0 rfl (lv_at hl 0 rfl) ?_
  obtain ⟨a_46, ci_47, fs_48, er, he, hc, hw⟩ := zo_e hw
  obtain rfl := List.mem_singleton.mp hc
  refine zr_callv (zw_runV (As := []) hk hH hz hS hl.1 er hw (cwV 0 hts (lw_V q3127 q3129 qs102 q162 q3130) rfl rfl rfl (by decide +kernel) (z_room (Nat.le_of_ble_eq_true rfl))) he rfl rfl rfl (Nat.le_of_ble_eq_true rfl) dX5_sum_1 ⟨Nat.le_of_ble_eq_true rfl, Nat.le_of_ble_eq_true rfl⟩) hS (fun hp_1 nx_2 hw H locs hH hz hS => ?_)
  obtain ⟨I_4, ⟨n_45, hI⟩, hB_4⟩ := hw
  have hL_4 : ∀ (n_5 : Nat) (hp_3 : zHp) (nx_4 : Nat) (H : Heap) (locs : List Loc) (ls : Array Slot), I_4 n_5 hp_3 nx_4 → lv_has ls 2 [(0, va_rf (some h0))] → zHd g hp_3 H → H.size = nx_4 → va_S (zAd g) s.heap H locs → W p l e (zrm (d + 1) 0 0) s m ([.ref h0] : List Value).toArray below meth c H locs 0 0 (MQ below (zQv g Post) ([.ref h0] : List Value).toArray s 0 0 (zAd g)) (F0 m 4 ls []) := by
    intro n_5
    induction n_5 using Nat.strongRecOn with
    | _ n_5 ih_4 =>
      intro hp_3 nx_4 H locs ls hw hl hH hz hS
      have hw := hB_4 n_5 hp_3 nx_4 hw
      refine zr_aload_n (r := some h0) hx hb dX5_sum_4 rfl (lv_at hl 0 rfl) ?_
      refine lv_bipush (v := (43 : Int32)) hx hb dX5_sum_5 (by decide) ?_
      obtain ⟨a_42, ci_43, fs_44, er, he, hc, hw⟩ := zo_e hw
      obtain rfl := List.mem_singleton.mp hc
      refine zr_calli (zw_runV (As := [.int (43 : Int32)]) hk hH hz hS hl.1 er hw (cwV 1 hts (lw_V q3147 q3149 qs107 q162 q3150) rfl rfl rfl (by decide +kernel) (z_room (Nat.le_of_ble_eq_true rfl))) he rfl rfl rfl (Nat.le_of_ble_eq_true rfl) dX5_sum_7 ⟨Nat.le_of_ble_eq_true rfl, Nat.le_of_ble_eq_true rfl⟩) hS (fun x_8 hp_6 nx_7 hw H locs hH hz hS => ?_)
      obtain ⟨P_22, hP_22, hw⟩ := hw
      have hJ_22 : ∀ (hp_9 : zHp) (nx_10 : Nat) (H : Heap) (locs : List Loc) (ls : Array Slot), P_22 hp_9 nx_10 → lv_has ls 2 [(0, va_rf (some h0))] → zHd g hp_9 H → H.size = nx_10 → va_S (zAd g) s.heap H locs → W p l e (zrm (d + 1) 0 0) s m ([.ref h0] : List Value).toArray below meth c H locs 0 0 (MQ below (zQv g Post) ([.ref h0] : List Value).toArray s 0 0 (zAd g)) (F0 m 22 ls []) := by
        intro hp_9 nx_10 H locs ls hw hl hH hz hS
        have hw := hP_22 hp_9 nx_10 hw
        refine zr_aload_n (r := some h0) hx hb dX5_sum_22 rfl (lv_at hl 0 rfl) ?_
        refine lv_bipush (v := (43 : Int32)) hx hb dX5_sum_23 (by decide) ?_
        obtain ⟨a_33, ci_34, fs_35, er, he, hc, hw⟩ := zo_e hw
        obtain rfl := List.mem_singleton.mp hc
        refine zr_calli (zw_runV (As := [.int (43 : Int32)]) hk hH hz hS hl.1 er hw (cwV 1 hts (lw_V q3147 q3149 qs107 q162 q3150) rfl rfl rfl (by decide +kernel) (z_room (Nat.le_of_ble_eq_true rfl))) he rfl rfl rfl (Nat.le_of_ble_eq_true rfl) dX5_sum_25 ⟨Nat.le_of_ble_eq_true rfl, Nat.le_of_ble_eq_true rfl⟩) hS (fun x_13 hp_11 nx_12 hw H locs hH hz hS => ?_)
        obtain ⟨P_40, hP_40, hw⟩ := hw
        have hJ_40 : ∀ (x_14 : Int32) (hp_15 : zHp) (nx_16 : Nat) (H : Heap) (locs : List Loc) (ls : Array Slot), P_40 x_14 hp_15 nx_16 → lv_has ls 2 [(0, va_rf (some h0))] → zHd g hp_15 H → H.size = nx_16 → va_S (zAd g) s.heap H locs → W p l e (zrm (d + 1) 0 0) s m ([.ref h0] : List Value).toArray below meth c H locs 0 0 (MQ below (zQv g Post) ([.ref h0] : List Value).toArray s 0 0 (zAd g)) (F0 m 40 ls [.int x_14]) := by
          intro x_14 hp_15 nx_16 H locs ls hw hl hH hz hS
          have hw := hP_40 x_14 hp_15 nx_16 hw
          refine lv_istore_n (i := 1) (lv' := [(1, .int x_14), (0, va_rf (some h0))]) hx hb dX5_sum_40 rfl hl (by decide) (by first | rfl | simp [List.filter_cons, z_cat, z_catI, z_catJ, z_catF, z_catD]) (fun ls hl => ?_)
          refine zr_aload_n (r := some h0) hx hb dX5_sum_41 rfl (lv_at hl 1 rfl) ?_
          obtain ⟨a_30, ci_31, fs_32, er, he, hc, hw⟩ := zo_e hw
          obtain rfl := List.mem_singleton.mp hc
          refine zr_callv (zw_runV (As := []) hk hH hz hS hl.1 er hw (cwV 0 hts (lw_V q3082 q3084 qs94 q162 q3085) rfl rfl rfl (by decide +kernel) (z_room (Nat.le_of_ble_eq_true rfl))) he rfl rfl rfl (Nat.le_of_ble_eq_true rfl) dX5_sum_42 ⟨Nat.le_of_ble_eq_true rfl, Nat.le_of_ble_eq_true rfl⟩) hS (fun hp_17 nx_18 hw H locs hH hz hS => ?_)
          refine zr_aload_n (r := some h0) hx hb dX5_sum_45 rfl (lv_at hl 1 rfl) ?_
          obtain ⟨a_27, ci_28, fs_29, er, he, hc, hw⟩ := zo_e hw
          obtain rfl := List.mem_singleton.mp hc
          refine zr_callv (zw_runV (As := []) hk hH hz hS hl.1 er hw (cwV 0 hts (lw_V q3127 q3129 qs102 q162 q3130) rfl rfl rfl (by decide +kernel) (z_room (Nat.le_of_ble_eq_true rfl))) he rfl rfl rfl (Nat.le_of_ble_eq_true rfl) dX5_sum_46 ⟨Nat.le_of_ble_eq_true rfl, Nat.le_of_ble_eq_true rfl⟩) hS (fun hp_19 nx_20 hw H locs hH hz hS => ?_)
          refine zr_aload_n (r := some h0) hx hb dX5_sum_49 rfl (lv_at hl 1 rfl) ?_
          refine lv_iload_n hx hb dX5_sum_50 rfl (lv_at hl 0 rfl) ?_
          obtain ⟨a_24, ci_25, fs_26, er, he, hc, hw⟩ := zo_e hw
          obtain rfl := List.mem_singleton.mp hc
          refine zr_callv (zw_runV (As := [.int x_14]) hk hH hz hS hl.1 er hw (cwV 1 hts (lw_V q3135 q3137 qs104 q162 q3138) rfl rfl rfl (by decide +kernel) (z_room (Nat.le_of_ble_eq_true rfl))) he rfl rfl rfl (Nat.le_of_ble_eq_true rfl) dX5_sum_51 ⟨Nat.le_of_ble_eq_true rfl, Nat.le_of_ble_eq_true rfl⟩) hS (fun hp_21 nx_22 hw H locs hH hz hS => ?_)
          refine lv_goto (tgt := 4) hx hb dX5_sum_54 (by decide) ?_
          obtain ⟨k_23, hlt, hw⟩ := hw
          exact ih_4 k_23 hlt hp_21 nx_22 _ _ _ hw (lv_sub hl [1] rfl) hH hz hS
        refine lv_if_eq (tgt := 37) hx hb dX5_sum_28 (by decide) (fun hc => ?_) (fun hc => ?_)
        · have hw := hw.1 hc
          refine lv_sipush (v := (202 : Int32)) hx hb dX5_sum_37 (by decide) ?_
          exact hJ_40 (202 : Int32) hp_11 nx_12 _ _ _ hw hl hH hz hS
        · have hw := hw.2 hc
          refine lv_sipush (v := (201 : Int32)) hx hb dX5_sum_31 (by decide) ?_
          refine lv_goto (tgt := 40) hx hb dX5_sum_34 (by decide) ?_
          exact hJ_40 (201 : Int32) hp_11 nx_12 _ _ _ hw hl hH hz hS
      refine lv_if_ne (tgt := 22) hx hb dX5_sum_10 (by decide) (fun hc => ?_) (fun hc => ?_)
      · have hw := hw.2 hc
        exact hJ_22 hp_6 nx_7 _ _ _ hw hl hH hz hS
      · have hw := hw.1 hc
        refine zr_aload_n (r := some h0) hx hb dX5_sum_13 rfl (lv_at hl 0 rfl) ?_
        refine lv_bipush (v := (45 : Int32)) hx hb dX5_sum_14 (by decide) ?_
        obtain ⟨a_39, ci_40, fs_41, er, he, hc, hw⟩ := zo_e hw
        obtain rfl := List.mem_singleton.mp hc
        refine zr_calli (zw_runV (As := [.int (45 : Int32)]) hk hH hz hS hl.1 er hw (cwV 1 hts (lw_V q3147 q3149 qs107 q162 q3150) rfl rfl rfl (by decide +kernel) (z_room (Nat.le_of_ble_eq_true rfl))) he rfl rfl rfl (Nat.le_of_ble_eq_true rfl) dX5_sum_16 ⟨Nat.le_of_ble_eq_true rfl, Nat.le_of_ble_eq_true rfl⟩) hS (fun x_38 hp_36 nx_37 hw H locs hH hz hS => ?_)
        refine lv_if_eq (tgt := 57) hx hb dX5_sum_19 (by decide) (fun hc => ?_) (fun hc => ?_)
        · have hw := hw.1 hc
          exact zr_vret hk hr hH hz hS hw (Nat.le_of_ble_eq_true rfl) (Nat.le_of_ble_eq_true rfl) dX5_sum_57
        · have hw := hw.2 hc
          exact hJ_22 hp_36 nx_37 _ _ _ hw hl hH hz hS
  exact hL_4 n_45 hp_1 nx_2 _ _ _ hI hl hH hz hS
