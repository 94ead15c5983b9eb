set_option maxRecDepth 100000
def wp_X5_term (l : Launch) (g : zG) (d : Nat) (h0 : Nat) (hp : zHp) (nx : Nat) (Post : zHp → Nat → Prop) : Prop :=
  (zo hp (some h0) [5] fun a_58 ci_59 fs_60 => zMt l g yX5_one cX5_one 2 none d 0 0 (.ref a_58 :: []) hp nx (zQv g fun hp_1 nx_2 =>
  (∃ I_4 : Nat → zHp → Nat → Prop, (∃ n_57, I_4 n_57 hp_1 nx_2) ∧ ∀ (n_5 : Nat) (hp_3 : zHp) (nx_4 : Nat), I_4 n_5 hp_3 nx_4 →
  (zo hp_3 (some h0) [5] fun a_54 ci_55 fs_56 => zMt l g yX5_isSign cX5_isSign 2 (some .boolean) d 0 0 (.ref a_54 :: [.int (42 : Int32)]) hp_3 nx_4 (zQi g fun x_8 hp_6 nx_7 =>
  (∃ P_31 : zHp → Nat → Prop, (∀ (hp_9 : zHp) (nx_10 : Nat), P_31 hp_9 nx_10 →
  (zo hp_9 (some h0) [5] fun a_39 ci_40 fs_41 => zMt l g yX5_isSign cX5_isSign 2 (some .boolean) d 0 0 (.ref a_39 :: [.int (42 : Int32)]) hp_9 nx_10 (zQi g fun x_13 hp_11 nx_12 =>
  (∃ P_64 : Int32 → zHp → Nat → Prop, (∀ (x_14 : Int32) (hp_15 : zHp) (nx_16 : Nat), P_64 x_14 hp_15 nx_16 →
  (zo hp_15 (some h0) [5] fun a_30 ci_31 fs_32 => zMt l g yX5_next cX5_next 1 none d 0 0 (.ref a_30 :: []) hp_15 nx_16 (zQv g fun hp_17 nx_18 =>
  (zo hp_17 (some h0) [5] fun a_27 ci_28 fs_29 => zMt l g yX5_one cX5_one 2 none d 0 0 (.ref a_27 :: []) hp_17 nx_18 (zQv g fun hp_19 nx_20 =>
  (zo hp_19 (some h0) [5] fun a_24 ci_25 fs_26 => zMt l g yX5_mark cX5_mark 2 none d 0 0 (.ref a_24 :: [.int x_14]) hp_19 nx_20 (zQv g fun hp_21 nx_22 =>
  (∃ k_23, k_23 < n_5 ∧ I_4 k_23 hp_21 nx_22)))))))) ∧
  ((x_13 = 0 →
  (zo hp_11 (some h0) [5] fun a_36 ci_37 fs_38 => zMt l g yX5_isSign cX5_isSign 2 (some .boolean) d 0 0 (.ref a_36 :: [.int (47 : Int32)]) hp_11 nx_12 (zQi g fun x_35 hp_33 nx_34 =>
  ((x_35 = 0 →
  P_64 (205 : Int32) hp_33 nx_34) ∧
  (¬ x_35 = 0 →
  P_64 (204 : Int32) hp_33 nx_34))))) ∧
  (¬ x_13 = 0 →
  P_64 (203 : Int32) hp_11 nx_12)))))) ∧
  ((x_8 = 0 →
  (zo hp_6 (some h0) [5] fun a_51 ci_52 fs_53 => zMt l g yX5_isSign cX5_isSign 2 (some .boolean) d 0 0 (.ref a_51 :: [.int (47 : Int32)]) hp_6 nx_7 (zQi g fun x_44 hp_42 nx_43 =>
  ((x_44 = 0 →
  (zo hp_42 (some h0) [5] fun a_48 ci_49 fs_50 => zMt l g yX5_isSign cX5_isSign 2 (some .boolean) d 0 0 (.ref a_48 :: [.int (37 : Int32)]) hp_42 nx_43 (zQi g fun x_47 hp_45 nx_46 =>
  ((x_47 = 0 →
  (Post hp_45 nx_46)) ∧
  (¬ x_47 = 0 →
  P_31 hp_45 nx_46))))) ∧
  (¬ x_44 = 0 →
  P_31 hp_42 nx_43))))) ∧
  (¬ x_8 = 0 →
  P_31 hp_6 nx_7))))))))
set_option maxHeartbeats 40000000 in
theorem met_X5_term {l : Launch} {g : zG} {d : Nat} {h0 : Nat} {hp : zHp} {nx : Nat} {Post : zHp → Nat → Prop} (hw : wp_X5_term l g d h0 hp nx Post) : zMt l g yX5_term cX5_term 2 none (d + 1) 0 0 [.ref h0] hp nx (zQv g Post) := by
  refine z_start (by decide) (Nat.le_of_ble_eq_true rfl) ?_
  intro p e s m below meth c hk hr hin hH hz ls hl
  have hx := hk.1.1
  have hb := hk.1.2.1
  have hown := hk.1.2.2.2.1
  have hts := hk.1.2.2.2.2
  have hS : va_S (zAd g) s.heap s.heap [] := va_S.rf
  have hl : lv_has ls 2 [(0, va_rf (some h0))] := hl
  unfold wp_X5_term at hw
  refine zr_aload_n (r := some h0) hx hb dX5_term_0 rfl (lv_at hl 0 rfl) ?_
  obtain ⟨a_58, ci_59, fs_60, er, he, hc, hw⟩ := zo_e hw
  obtain rfl := List.mem_singleton.mp hc
  refine zr_callv (zw_runV (As := []) hk hH hz hS hl.1 er hw (cwV 0 hts (lw_V q3131 q3133 qs103 q162 q3134) rfl rfl rfl (by decide +kernel) (z_room (Nat.le_of_ble_eq_true rfl))) he rfl rfl rfl (Nat.le_of_ble_eq_true rfl) dX5_term_1 ⟨Nat.le_of_ble_eq_true rfl, Nat.le_of_ble_eq_true rfl⟩) hS (fun hp_1 nx_2 hw H locs hH hz hS => ?_)
  obtain ⟨I_4, ⟨n_57, hI⟩, hB_4⟩ := hw
  have hL_4 : ∀ (n_5 : Nat) (hp_3 : zHp) (nx_4 : Nat) (H : Heap) (locs : List Loc) (ls : Array Slot), I_4 n_5 hp_3 nx_4 → lv_has ls 2 [(0, va_rf (some h0))] → zHd g hp_3 H → H.size = nx_4 → va_S (zAd g) s.heap H locs → W p l e (zrm (d + 1) 0 0) s m ([.ref h0] : List Value).toArray below meth c H locs 0 0 (MQ below (zQv g Post) ([.ref h0] : List Value).toArray s 0 0 (zAd g)) (F0 m 4 ls []) := by
    intro n_5
    induction n_5 using Nat.strongRecOn with
    | _ n_5 ih_4 =>
      intro hp_3 nx_4 H locs ls hw hl hH hz hS
      have hw := hB_4 n_5 hp_3 nx_4 hw
      refine zr_aload_n (r := some h0) hx hb dX5_term_4 rfl (lv_at hl 0 rfl) ?_
      refine lv_bipush (v := (42 : Int32)) hx hb dX5_term_5 (by decide) ?_
      obtain ⟨a_54, ci_55, fs_56, er, he, hc, hw⟩ := zo_e hw
      obtain rfl := List.mem_singleton.mp hc
      refine zr_calli (zw_runV (As := [.int (42 : Int32)]) hk hH hz hS hl.1 er hw (cwV 1 hts (lw_V q3147 q3149 qs107 q162 q3150) rfl rfl rfl (by decide +kernel) (z_room (Nat.le_of_ble_eq_true rfl))) he rfl rfl rfl (Nat.le_of_ble_eq_true rfl) dX5_term_7 ⟨Nat.le_of_ble_eq_true rfl, Nat.le_of_ble_eq_true rfl⟩) hS (fun x_8 hp_6 nx_7 hw H locs hH hz hS => ?_)
      obtain ⟨P_31, hP_31, hw⟩ := hw
      have hJ_31 : ∀ (hp_9 : zHp) (nx_10 : Nat) (H : Heap) (locs : List Loc) (ls : Array Slot), P_31 hp_9 nx_10 → lv_has ls 2 [(0, va_rf (some h0))] → zHd g hp_9 H → H.size = nx_10 → va_S (zAd g) s.heap H locs → W p l e (zrm (d + 1) 0 0) s m ([.ref h0] : List Value).toArray below meth c H locs 0 0 (MQ below (zQv g Post) ([.ref h0] : List Value).toArray s 0 0 (zAd g)) (F0 m 31 ls []) := by
        intro hp_9 nx_10 H locs ls hw hl hH hz hS
        have hw := hP_31 hp_9 nx_10 hw
        refine zr_aload_n (r := some h0) hx hb dX5_term_31 rfl (lv_at hl 0 rfl) ?_
        refine lv_bipush (v := (42 : Int32)) hx hb dX5_term_32 (by decide) ?_
        obtain ⟨a_39, ci_40, fs_41, er, he, hc, hw⟩ := zo_e hw
        obtain rfl := List.mem_singleton.mp hc
        refine zr_calli (zw_runV (As := [.int (42 : Int32)]) hk hH hz hS hl.1 er hw (cwV 1 hts (lw_V q3147 q3149 qs107 q162 q3150) rfl rfl rfl (by decide +kernel) (z_room (Nat.le_of_ble_eq_true rfl))) he rfl rfl rfl (Nat.le_of_ble_eq_true rfl) dX5_term_34 ⟨Nat.le_of_ble_eq_true rfl, Nat.le_of_ble_eq_true rfl⟩) hS (fun x_13 hp_11 nx_12 hw H locs hH hz hS => ?_)
        obtain ⟨P_64, hP_64, hw⟩ := hw
        have hJ_64 : ∀ (x_14 : Int32) (hp_15 : zHp) (nx_16 : Nat) (H : Heap) (locs : List Loc) (ls : Array Slot), P_64 x_14 hp_15 nx_16 → lv_has ls 2 [(0, va_rf (some h0))] → zHd g hp_15 H → H.size = nx_16 → va_S (zAd g) s.heap H locs → W p l e (zrm (d + 1) 0 0) s m ([.ref h0] : List Value).toArray below meth c H locs 0 0 (MQ below (zQv g Post) ([.ref h0] : List Value).toArray s 0 0 (zAd g)) (F0 m 64 ls [.int x_14]) := by
          intro x_14 hp_15 nx_16 H locs ls hw hl hH hz hS
          have hw := hP_64 x_14 hp_15 nx_16 hw
          refine lv_istore_n (i := 1) (lv' := [(1, .int x_14), (0, va_rf (some h0))]) hx hb dX5_term_64 rfl hl (by decide) (by first | rfl | simp [List.filter_cons, z_cat, z_catI, z_catJ, z_catF, z_catD]) (fun ls hl => ?_)
          refine zr_aload_n (r := some h0) hx hb dX5_term_65 rfl (lv_at hl 1 rfl) ?_
          obtain ⟨a_30, ci_31, fs_32, er, he, hc, hw⟩ := zo_e hw
          obtain rfl := List.mem_singleton.mp hc
          refine zr_callv (zw_runV (As := []) hk hH hz hS hl.1 er hw (cwV 0 hts (lw_V q3082 q3084 qs94 q162 q3085) rfl rfl rfl (by decide +kernel) (z_room (Nat.le_of_ble_eq_true rfl))) he rfl rfl rfl (Nat.le_of_ble_eq_true rfl) dX5_term_66 ⟨Nat.le_of_ble_eq_true rfl, Nat.le_of_ble_eq_true rfl⟩) hS (fun hp_17 nx_18 hw H locs hH hz hS => ?_)
          refine zr_aload_n (r := some h0) hx hb dX5_term_69 rfl (lv_at hl 1 rfl) ?_
          obtain ⟨a_27, ci_28, fs_29, er, he, hc, hw⟩ := zo_e hw
          obtain rfl := List.mem_singleton.mp hc
          refine zr_callv (zw_runV (As := []) hk hH hz hS hl.1 er hw (cwV 0 hts (lw_V q3131 q3133 qs103 q162 q3134) rfl rfl rfl (by decide +kernel) (z_room (Nat.le_of_ble_eq_true rfl))) he rfl rfl rfl (Nat.le_of_ble_eq_true rfl) dX5_term_70 ⟨Nat.le_of_ble_eq_true rfl, Nat.le_of_ble_eq_true rfl⟩) hS (fun hp_19 nx_20 hw H locs hH hz hS => ?_)
          refine zr_aload_n (r := some h0) hx hb dX5_term_73 rfl (lv_at hl 1 rfl) ?_
          refine lv_iload_n hx hb dX5_term_74 rfl (lv_at hl 0 rfl) ?_
          obtain ⟨a_24, ci_25, fs_26, er, he, hc, hw⟩ := zo_e hw
          obtain rfl := List.mem_singleton.mp hc
          refine zr_callv (zw_runV (As := [.int x_14]) hk hH hz hS hl.1 er hw (cwV 1 hts (lw_V q3135 q3137 qs104 q162 q3138) rfl rfl rfl (by decide +kernel) (z_room (Nat.le_of_ble_eq_true rfl))) he rfl rfl rfl (Nat.le_of_ble_eq_true rfl) dX5_term_75 ⟨Nat.le_of_ble_eq_true rfl, Nat.le_of_ble_eq_true rfl⟩) hS (fun hp_21 nx_22 hw H locs hH hz hS => ?_)
          refine lv_goto (tgt := 4) hx hb dX5_term_78 (by decide) ?_
          obtain ⟨k_23, hlt, hw⟩ := hw
          exact ih_4 k_23 hlt hp_21 nx_22 _ _ _ hw (lv_sub hl [1] rfl) hH hz hS
        refine lv_if_eq (tgt := 46) hx hb dX5_term_37 (by decide) (fun hc => ?_) (fun hc => ?_)
        · have hw := hw.1 hc
          refine zr_aload_n (r := some h0) hx hb dX5_term_46 rfl (lv_at hl 0 rfl) ?_
          refine lv_bipush (v := (47 : Int32)) hx hb dX5_term_47 (by decide) ?_
          obtain ⟨a_36, ci_37, fs_38, er, he, hc, hw⟩ := zo_e hw
          obtain rfl := List.mem_singleton.mp hc
          refine zr_calli (zw_runV (As := [.int (47 : Int32)]) hk hH hz hS hl.1 er hw (cwV 1 hts (lw_V q3147 q3149 qs107 q162 q3150) rfl rfl rfl (by decide +kernel) (z_room (Nat.le_of_ble_eq_true rfl))) he rfl rfl rfl (Nat.le_of_ble_eq_true rfl) dX5_term_49 ⟨Nat.le_of_ble_eq_true rfl, Nat.le_of_ble_eq_true rfl⟩) hS (fun x_35 hp_33 nx_34 hw H locs hH hz hS => ?_)
          refine lv_if_eq (tgt := 61) hx hb dX5_term_52 (by decide) (fun hc => ?_) (fun hc => ?_)
          · have hw := hw.1 hc
            refine lv_sipush (v := (205 : Int32)) hx hb dX5_term_61 (by decide) ?_
            exact hJ_64 (205 : Int32) hp_33 nx_34 _ _ _ hw hl hH hz hS
          · have hw := hw.2 hc
            refine lv_sipush (v := (204 : Int32)) hx hb dX5_term_55 (by decide) ?_
            refine lv_goto (tgt := 64) hx hb dX5_term_58 (by decide) ?_
            exact hJ_64 (204 : Int32) hp_33 nx_34 _ _ _ hw hl hH hz hS
        · have hw := hw.2 hc
          refine lv_sipush (v := (203 : Int32)) hx hb dX5_term_40 (by decide) ?_
          refine lv_goto (tgt := 64) hx hb dX5_term_43 (by decide) ?_
          exact hJ_64 (203 : Int32) hp_11 nx_12 _ _ _ hw hl hH hz hS
      refine lv_if_ne (tgt := 31) hx hb dX5_term_10 (by decide) (fun hc => ?_) (fun hc => ?_)
      · have hw := hw.2 hc
        exact hJ_31 hp_6 nx_7 _ _ _ hw hl hH hz hS
      · have hw := hw.1 hc
        refine zr_aload_n (r := some h0) hx hb dX5_term_13 rfl (lv_at hl 0 rfl) ?_
        refine lv_bipush (v := (47 : Int32)) hx hb dX5_term_14 (by decide) ?_
        obtain ⟨a_51, ci_52, fs_53, er, he, hc, hw⟩ := zo_e hw
        obtain rfl := List.mem_singleton.mp hc
        refine zr_calli (zw_runV (As := [.int (47 : Int32)]) hk hH hz hS hl.1 er hw (cwV 1 hts (lw_V q3147 q3149 qs107 q162 q3150) rfl rfl rfl (by decide +kernel) (z_room (Nat.le_of_ble_eq_true rfl))) he rfl rfl rfl (Nat.le_of_ble_eq_true rfl) dX5_term_16 ⟨Nat.le_of_ble_eq_true rfl, Nat.le_of_ble_eq_true rfl⟩) hS (fun x_44 hp_42 nx_43 hw H locs hH hz hS => ?_)
        refine lv_if_ne (tgt := 31) hx hb dX5_term_19 (by decide) (fun hc => ?_) (fun hc => ?_)
        · have hw := hw.2 hc
          exact hJ_31 hp_42 nx_43 _ _ _ hw hl hH hz hS
        · have hw := hw.1 hc
          refine zr_aload_n (r := some h0) hx hb dX5_term_22 rfl (lv_at hl 0 rfl) ?_
          refine lv_bipush (v := (37 : Int32)) hx hb dX5_term_23 (by decide) ?_
          obtain ⟨a_48, ci_49, fs_50, er, he, hc, hw⟩ := zo_e hw
          obtain rfl := List.mem_singleton.mp hc
          refine zr_calli (zw_runV (As := [.int (37 : Int32)]) hk hH hz hS hl.1 er hw (cwV 1 hts (lw_V q3147 q3149 qs107 q162 q3150) rfl rfl rfl (by decide +kernel) (z_room (Nat.le_of_ble_eq_true rfl))) he rfl rfl rfl (Nat.le_of_ble_eq_true rfl) dX5_term_25 ⟨Nat.le_of_ble_eq_true rfl, Nat.le_of_ble_eq_true rfl⟩) hS (fun x_47 hp_45 nx_46 hw H locs hH hz hS => ?_)
          refine lv_if_eq (tgt := 81) hx hb dX5_term_28 (by decide) (fun hc => ?_) (fun hc => ?_)
          · have hw := hw.1 hc
            exact zr_vret hk hr hH hz hS hw (Nat.le_of_ble_eq_true rfl) (Nat.le_of_ble_eq_true rfl) dX5_term_81
          · have hw := hw.2 hc
            exact hJ_31 hp_45 nx_46 _ _ _ hw hl hH hz hS
  exact hL_4 n_57 hp_1 nx_2 _ _ _ hI hl hH hz hS
theorem fk_X5_438 {ci : Nat} (h : ci ∈ [5]) : zFk "WhatIfSheetModel" 438 ci 45 := by
  simp only [List.mem_cons, List.not_mem_nil, or_false] at h
  rcases h with rfl
  · exact ⟨RX5, TX5, 76, rfl, by decide, q2719⟩
theorem fk_X5_450 {ci : Nat} (h : ci ∈ [5]) : zFk "WhatIfSheetModel" 450 ci 38 := by
  simp only [List.mem_cons, List.not_mem_nil, or_false] at h
  rcases h with rfl
  · exact ⟨RX5, TX5, 76, rfl, by decide, q2712⟩
def wp_X5_one (l : Launch) (g : zG) (d : Nat) (h0 : Nat) (hp : zHp) (nx : Nat) (Post : zHp → Nat → Prop) : Prop :=
  (zgI hp (some h0) [5] 46 fun x_4 =>
  ((x_4 = 0 →
  (zgI hp (some h0) [5] 41 fun x_8 =>
  (∃ P_268 : zHp → Nat → Prop, (∀ (hp_9 : zHp) (nx_10 : Nat), P_268 hp_9 nx_10 →
  (Post hp_9 nx_10)) ∧
  ((x_8 = (2 : Int32) →
  (zgR hp (some h0) [5] 36 fun r_133 =>
  (zgI hp (some h0) [5] 38 fun x_137 =>
  (zgI hp (some h0) [5] 44 fun x_141 =>
  (∃ P_58 : (Option Nat) → Int32 → UInt64 → zHp → Nat → Prop, (∀ (r_142 : Option Nat) (x_143 : Int32) (x_144 : UInt64) (hp_145 : zHp) (nx_146 : Nat), P_58 r_142 x_143 x_144 hp_145 nx_146 →
  (zaD (g.2.1 1) hp_145 r_142 fun a_147 n_148 f_149 => vp_in x_143 n_148 ∧ zB g ≤ a_147 ∧ ∀ hp_150 : zHp, hp_150 = va_up hp_145 a_147 (some (.inl (g.2.1 1, n_148, .inr (.inr (.inr (.inl (va_up f_149 x_143.toNatClampNeg x_144))))))) →
  (zgI hp_150 (some h0) [5] 38 fun x_154 =>
  (zo hp_150 (some h0) [5] fun a_170 ci_171 fs_172 => zMt l g yX5_mark cX5_mark 2 none d 0 0 (.ref a_170 :: [.int ((100 : Int32) + x_154)]) hp_150 nx_146 (zQv g fun hp_155 nx_156 =>
  (zgI hp_155 (some h0) [5] 38 fun x_160 =>
  (zpt g hp_155 (some h0) [5] 38 (.int (x_160 + (1 : Int32))) fun hp_164 =>
  (zo hp_164 (some h0) [5] fun a_167 ci_168 fs_169 => zMt l g yX5_next cX5_next 1 none d 0 0 (.ref a_167 :: []) hp_164 nx_156 (zQv g fun hp_165 nx_166 =>
  P_268 hp_165 nx_166))))))))) ∧
  ((x_141 = (-1 : Int32) →
  (zgI hp (some h0) [5] 43 fun x_184 =>
  P_58 r_133 x_137 (FP.i2d x_184) hp nx)) ∧
  (¬ x_141 = (-1 : Int32) →
  (zgI hp (some h0) [5] 43 fun x_176 =>
  (zgI hp (some h0) [5] 44 fun x_180 =>
  (vf_n64 (FP.ddiv (FP.i2d (((1000 : Int32) * x_176) + x_180)) (4652007308841189376 : UInt64)) ∧ P_58 r_133 x_137 (FP.ddiv (FP.i2d (((1000 : Int32) * x_176) + x_180)) (4652007308841189376 : UInt64)) hp nx)))))))))) ∧
  (¬ x_8 = (2 : Int32) →
  (zgI hp (some h0) [5] 41 fun x_14 =>
  (∃ P_130 : zHp → Nat → Prop, (∀ (hp_15 : zHp) (nx_16 : Nat), P_130 hp_15 nx_16 →
  (zgI hp_15 (some h0) [5] 41 fun x_20 =>
  ((x_20 = (1 : Int32) →
  (zo hp_15 (some h0) [5] fun a_99 ci_100 fs_101 => zMt l g yX5_word cX5_word 1 (some .int) d 0 0 (.ref a_99 :: []) hp_15 nx_16 (zQi g fun x_68 hp_66 nx_67 =>
  (zo hp_66 (some h0) [5] fun a_96 ci_97 fs_98 => zMt l g yX5_next cX5_next 1 none d 0 0 (.ref a_96 :: []) hp_66 nx_67 (zQv g fun hp_69 nx_70 =>
  (((5 : Int32) ≤ x_68 →
  (∃ P_169 : Int32 → (Option Nat) → Int32 → zHp → Nat → Prop, (∀ (x_71 : Int32) (r_72 : Option Nat) (x_73 : Int32) (hp_74 : zHp) (nx_75 : Nat), P_169 x_71 r_72 x_73 hp_74 nx_75 →
  (zo hp_74 r_72 [5] fun a_88 ci_89 fs_90 => zMt l g yX5_parts cX5_parts 3 none d 0 0 (.ref a_88 :: [.int x_73]) hp_74 nx_75 (zQv g fun hp_76 nx_77 =>
  (∃ P_199 : Int32 → (Option Nat) → Int32 → zHp → Nat → Prop, (∀ (x_78 : Int32) (r_79 : Option Nat) (x_80 : Int32) (hp_81 : zHp) (nx_82 : Nat), P_199 x_78 r_79 x_80 hp_81 nx_82 →
  (zo hp_81 r_79 [5] fun a_85 ci_86 fs_87 => zMt l g yX5_mark cX5_mark 2 none d 0 0 (.ref a_85 :: [.int x_80]) hp_81 nx_82 (zQv g fun hp_83 nx_84 =>
  P_268 hp_83 nx_84))) ∧
  ((x_71 = (5 : Int32) →
  P_199 x_71 (some h0) (210 : Int32) hp_76 nx_77) ∧
  (¬ x_71 = (5 : Int32) →
  ((x_71 = (6 : Int32) →
  P_199 x_71 (some h0) (208 : Int32) hp_76 nx_77) ∧
  (¬ x_71 = (6 : Int32) →
  P_199 x_71 (some h0) (209 : Int32) hp_76 nx_77)))))))) ∧
  ((x_68 = (5 : Int32) →
  P_169 x_68 (some h0) (3 : Int32) hp_69 nx_70) ∧
  (¬ x_68 = (5 : Int32) →
  P_169 x_68 (some h0) (2 : Int32) hp_69 nx_70)))) ∧
  (¬ (5 : Int32) ≤ x_68 →
  (zo hp_69 (some h0) [5] fun a_93 ci_94 fs_95 => zMt l g yX5_ofTable cX5_ofTable 2 none d 0 0 (.ref a_93 :: [.int x_68]) hp_69 nx_70 (zQv g fun hp_91 nx_92 =>
  (Post hp_91 nx_92)))))))))) ∧
  (¬ x_20 = (1 : Int32) →
  (zo hp_15 (some h0) [5] fun a_63 ci_64 fs_65 => zMt l g yX5_isSign cX5_isSign 2 (some .boolean) d 0 0 (.ref a_63 :: [.int (45 : Int32)]) hp_15 nx_16 (zQi g fun x_23 hp_21 nx_22 =>
  ((x_23 = 0 →
  (zo hp_21 (some h0) [5] fun a_36 ci_37 fs_38 => zMt l g yX5_isSign cX5_isSign 2 (some .boolean) d 0 0 (.ref a_36 :: [.int (40 : Int32)]) hp_21 nx_22 (zQi g fun x_26 hp_24 nx_25 =>
  ((x_26 = 0 →
  (zpt g hp_24 (some h0) [5] 46 (.int (1 : Int32)) fun hp_30 =>
  P_268 hp_30 nx_25)) ∧
  (¬ x_26 = 0 →
  (zo hp_24 (some h0) [5] fun a_33 ci_34 fs_35 => zMt l g yX5_parts cX5_parts 3 none d 0 0 (.ref a_33 :: [.int (1 : Int32)]) hp_24 nx_25 (zQv g fun hp_31 nx_32 =>
  P_268 hp_31 nx_32))))))) ∧
  (¬ x_23 = 0 →
  (zo hp_21 (some h0) [5] fun a_60 ci_61 fs_62 => zMt l g yX5_opens cX5_opens 1 (some .boolean) d 0 0 (.ref a_60 :: []) hp_21 nx_22 (zQi g fun x_41 hp_39 nx_40 =>
  ((x_41 = 0 →
  (Post hp_39 nx_40)) ∧
  (¬ x_41 = 0 →
  (zo hp_39 (some h0) [5] fun a_57 ci_58 fs_59 => zMt l g yX5_one cX5_one 2 none d 0 0 (.ref a_57 :: []) hp_39 nx_40 (zQv g fun hp_42 nx_43 =>
  (zgI hp_42 (some h0) [5] 45 fun x_47 =>
  (zpt g hp_42 (some h0) [5] 45 (.int (x_47 - (1 : Int32))) fun hp_51 =>
  (zo hp_51 (some h0) [5] fun a_54 ci_55 fs_56 => zMt l g yX5_mark cX5_mark 2 none d 0 0 (.ref a_54 :: [.int (200 : Int32)]) hp_51 nx_43 (zQv g fun hp_52 nx_53 =>
  P_268 hp_52 nx_53)))))))))))))))))) ∧
  ((x_14 = (1 : Int32) →
  (zgI hp (some h0) [5] 39 fun x_105 =>
  (zgI hp (some h0) [5] 40 fun x_109 =>
  (((x_105 - x_109) = (1 : Int32) →
  (zgI hp (some h0) [5] 40 fun x_113 =>
  (zo hp (some h0) [5] fun a_127 ci_128 fs_129 => zMt l g yX5_byteAt cX5_byteAt 2 (some .int) d 0 0 (.ref a_127 :: [.int x_113]) hp nx (zQi g fun x_116 hp_114 nx_115 =>
  (zo hp_114 (some h0) [5] fun a_124 ci_125 fs_126 => zMt l g yX5_mark cX5_mark 2 none d 0 0 (.ref a_124 :: [.int (x_116 - (97 : Int32))]) hp_114 nx_115 (zQv g fun hp_117 nx_118 =>
  (zo hp_117 (some h0) [5] fun a_121 ci_122 fs_123 => zMt l g yX5_next cX5_next 1 none d 0 0 (.ref a_121 :: []) hp_117 nx_118 (zQv g fun hp_119 nx_120 =>
  P_268 hp_119 nx_120)))))))) ∧
  (¬ (x_105 - x_109) = (1 : Int32) →
  P_130 hp nx))))) ∧
  (¬ x_14 = (1 : Int32) →
  P_130 hp nx))))))))) ∧
  (¬ x_4 = 0 →
  (Post hp nx))))
set_option maxHeartbeats 40000000 in
theorem met_X5_one {l : Launch} {g : zG} {d : Nat} {h0 : Nat} {hp : zHp} {nx : Nat} {Post : zHp → Nat → Prop} (hw : wp_X5_one l g d h0 hp nx Post) : zMt l g yX5_one cX5_one 2 none (d + 1) 0 0 [.ref h0] hp nx (zQv g Post) := by
  refine z_start (by decide) (Nat.le_of_ble_eq_true rfl) ?_
  intro p e s m below meth c hk hr hin hH hz ls hl
  have hx := hk.1.1
  have hb := hk.1.2.1
  have hown := hk.1.2.2.2.1
  have hts := hk.1.2.2.2.2
  have hS : va_S (zAd g) s.heap s.heap [] := va_S.rf
  have hl : lv_has ls 2 [(0, va_rf (some h0))] := hl
  unfold wp_X5_one at hw
  refine zr_aload_n (r := some h0) hx hb dX5_one_0 rfl (lv_at hl 0 rfl) ?_
  obtain ⟨a_1, ci_2, fs_3, x_4, er, he, hc, hv, hw⟩ := zgI_e hw
  refine zw_get hk hH er he hv (fk_X5_357 hc) dX5_one_1 ?_
  refine lv_if_eq (tgt := 8) hx hb dX5_one_4 (by decide) (fun hc => ?_) (fun hc => ?_)
  · have hw := hw.1 hc
    refine zr_aload_n (r := some h0) hx hb dX5_one_8 rfl (lv_at hl 0 rfl) ?_
    obtain ⟨a_5, ci_6, fs_7, x_8, er, he, hc, hv, hw⟩ := zgI_e hw
    refine zw_get hk hH er he hv (fk_X5_364 hc) dX5_one_9 ?_
    refine lv_iconst (v := (2 : Int32)) hx hb dX5_one_12 (by decide) ?_
    obtain ⟨P_268, hP_268, hw⟩ := hw
    have hJ_268 : ∀ (hp_9 : zHp) (nx_10 : Nat) (H : Heap) (locs : List Loc) (ls : Array Slot), P_268 hp_9 nx_10 → lv_has ls 2 [(0, va_rf (some h0))] → zHd g hp_9 H → H.size = nx_10 → va_S (zAd g) s.heap H locs → W p l e (zrm (d + 1) 0 0) s m ([.ref h0] : List Value).toArray below meth c H locs 0 0 (MQ below (zQv g Post) ([.ref h0] : List Value).toArray s 0 0 (zAd g)) (F0 m 268 ls []) := by
      intro hp_9 nx_10 H locs ls hw hl hH hz hS
      have hw := hP_268 hp_9 nx_10 hw
      exact zr_vret hk hr hH hz hS hw (Nat.le_of_ble_eq_true rfl) (Nat.le_of_ble_eq_true rfl) dX5_one_268
    refine lv_icmp_ne (tgt := 87) hx hb dX5_one_13 (by decide) (fun hc => ?_) (fun hc => ?_)
    · have hw := hw.2 hc
      refine zr_aload_n (r := some h0) hx hb dX5_one_87 rfl (lv_at hl 0 rfl) ?_
      obtain ⟨a_11, ci_12, fs_13, x_14, er, he, hc, hv, hw⟩ := zgI_e hw
      refine zw_get hk hH er he hv (fk_X5_364 hc) dX5_one_88 ?_
      refine lv_iconst (v := (1 : Int32)) hx hb dX5_one_91 (by decide) ?_
      obtain ⟨P_130, hP_130, hw⟩ := hw
      have hJ_130 : ∀ (hp_15 : zHp) (nx_16 : Nat) (H : Heap) (locs : List Loc) (ls : Array Slot), P_130 hp_15 nx_16 → lv_has ls 2 [(0, va_rf (some h0))] → zHd g hp_15 H → H.size = nx_16 → va_S (zAd g) s.heap H locs → W p l e (zrm (d + 1) 0 0) s m ([.ref h0] : List Value).toArray below meth c H locs 0 0 (MQ below (zQv g Post) ([.ref h0] : List Value).toArray s 0 0 (zAd g)) (F0 m 130 ls []) := by
        intro hp_15 nx_16 H locs ls hw hl hH hz hS
        have hw := hP_130 hp_15 nx_16 hw
        refine zr_aload_n (r := some h0) hx hb dX5_one_130 rfl (lv_at hl 0 rfl) ?_
        obtain ⟨a_17, ci_18, fs_19, x_20, er, he, hc, hv, hw⟩ := zgI_e hw
        refine zw_get hk hH er he hv (fk_X5_364 hc) dX5_one_131 ?_
        refine lv_iconst (v := (1 : Int32)) hx hb dX5_one_134 (by decide) ?_
        refine lv_icmp_ne (tgt := 205) hx hb dX5_one_135 (by decide) (fun hc => ?_) (fun hc => ?_)
        · have hw := hw.2 hc
          refine zr_aload_n (r := some h0) hx hb dX5_one_205 rfl (lv_at hl 0 rfl) ?_
          refine lv_bipush (v := (45 : Int32)) hx hb dX5_one_206 (by decide) ?_
          obtain ⟨a_63, ci_64, fs_65, er, he, hc, hw⟩ := zo_e hw
          obtain rfl := List.mem_singleton.mp hc
          refine zr_calli (zw_runV (As := [.int (45 : Int32)]) hk hH hz hS hl.1 er hw (cwV 1 hts (lw_V q3147 q3149 qs107 q162 q3150) rfl rfl rfl (by decide +kernel) (z_room (Nat.le_of_ble_eq_true rfl))) he rfl rfl rfl (Nat.le_of_ble_eq_true rfl) dX5_one_208 ⟨Nat.le_of_ble_eq_true rfl, Nat.le_of_ble_eq_true rfl⟩) hS (fun x_23 hp_21 nx_22 hw H locs hH hz hS => ?_)
          refine lv_if_eq (tgt := 246) hx hb dX5_one_211 (by decide) (fun hc => ?_) (fun hc => ?_)
          · have hw := hw.1 hc
            refine zr_aload_n (r := some h0) hx hb dX5_one_246 rfl (lv_at hl 0 rfl) ?_
            refine lv_bipush (v := (40 : Int32)) hx hb dX5_one_247 (by decide) ?_
            obtain ⟨a_36, ci_37, fs_38, er, he, hc, hw⟩ := zo_e hw
            obtain rfl := List.mem_singleton.mp hc
            refine zr_calli (zw_runV (As := [.int (40 : Int32)]) hk hH hz hS hl.1 er hw (cwV 1 hts (lw_V q3147 q3149 qs107 q162 q3150) rfl rfl rfl (by decide +kernel) (z_room (Nat.le_of_ble_eq_true rfl))) he rfl rfl rfl (Nat.le_of_ble_eq_true rfl) dX5_one_249 ⟨Nat.le_of_ble_eq_true rfl, Nat.le_of_ble_eq_true rfl⟩) hS (fun x_26 hp_24 nx_25 hw H locs hH hz hS => ?_)
            refine lv_if_eq (tgt := 263) hx hb dX5_one_252 (by decide) (fun hc => ?_) (fun hc => ?_)
            · have hw := hw.1 hc
              refine zr_aload_n (r := some h0) hx hb dX5_one_263 rfl (lv_at hl 0 rfl) ?_
              refine lv_iconst (v := (1 : Int32)) hx hb dX5_one_264 (by decide) ?_
              obtain ⟨a_27, ci_28, fs_29, hp_30, er, he, hc, hA, hkl, eh, hw⟩ := zpt_e hw
              refine zw_put hk hH hz hS er he hA hkl eh (fp_X5_357 hc) (z_nb (Or.inr rfl)) (z_fb (Or.inr rfl)) dX5_one_265 (fun H locs hH hz hS => ?_)
              exact hJ_268 hp_30 nx_25 _ _ _ hw hl hH hz hS
            · have hw := hw.2 hc
              refine zr_aload_n (r := some h0) hx hb dX5_one_255 rfl (lv_at hl 0 rfl) ?_
              refine lv_iconst (v := (1 : Int32)) hx hb dX5_one_256 (by decide) ?_
              obtain ⟨a_33, ci_34, fs_35, er, he, hc, hw⟩ := zo_e hw
              obtain rfl := List.mem_singleton.mp hc
              refine zr_callv (zw_runV (As := [.int (1 : Int32)]) hk hH hz hS hl.1 er hw (cwV 1 hts (lw_V q3143 q3145 qs106 q162 q3146) rfl rfl rfl (by decide +kernel) (z_room (Nat.le_of_ble_eq_true rfl))) he rfl rfl rfl (Nat.le_of_ble_eq_true rfl) dX5_one_257 ⟨Nat.le_of_ble_eq_true rfl, Nat.le_of_ble_eq_true rfl⟩) hS (fun hp_31 nx_32 hw H locs hH hz hS => ?_)
              refine lv_goto (tgt := 268) hx hb dX5_one_260 (by decide) ?_
              exact hJ_268 hp_31 nx_32 _ _ _ hw hl hH hz hS
          · have hw := hw.2 hc
            refine zr_aload_n (r := some h0) hx hb dX5_one_214 rfl (lv_at hl 0 rfl) ?_
            obtain ⟨a_60, ci_61, fs_62, er, he, hc, hw⟩ := zo_e hw
            obtain rfl := List.mem_singleton.mp hc
            refine zr_calli (zw_runV (As := []) hk hH hz hS hl.1 er hw (cwV 0 hts (lw_V q3151 q3153 qs108 q162 q3154) rfl rfl rfl (by decide +kernel) (z_room (Nat.le_of_ble_eq_true rfl))) he rfl rfl rfl (Nat.le_of_ble_eq_true rfl) dX5_one_215 ⟨Nat.le_of_ble_eq_true rfl, Nat.le_of_ble_eq_true rfl⟩) hS (fun x_41 hp_39 nx_40 hw H locs hH hz hS => ?_)
            refine lv_if_ne (tgt := 222) hx hb dX5_one_218 (by decide) (fun hc => ?_) (fun hc => ?_)
            · have hw := hw.2 hc
              refine zr_aload_n (r := some h0) hx hb dX5_one_222 rfl (lv_at hl 0 rfl) ?_
              obtain ⟨a_57, ci_58, fs_59, er, he, hc, hw⟩ := zo_e hw
              obtain rfl := List.mem_singleton.mp hc
              refine zr_callv (zw_runV (As := []) hk hH hz hS hl.1 er hw (cwV 0 hts (lw_V q3131 q3133 qs103 q162 q3134) rfl rfl rfl (by decide +kernel) (z_room (Nat.le_of_ble_eq_true rfl))) he rfl rfl rfl (Nat.le_of_ble_eq_true rfl) dX5_one_223 ⟨Nat.le_of_ble_eq_true rfl, Nat.le_of_ble_eq_true rfl⟩) hS (fun hp_42 nx_43 hw H locs hH hz hS => ?_)
              refine zr_aload_n (r := some h0) hx hb dX5_one_226 rfl (lv_at hl 0 rfl) ?_
              refine lv_dup hx hb dX5_one_227 (z_cat _) ?_
              obtain ⟨a_44, ci_45, fs_46, x_47, er, he, hc, hv, hw⟩ := zgI_e hw
              refine zw_get hk hH er he hv (fk_X5_438 hc) dX5_one_228 ?_
              refine lv_iconst (v := (1 : Int32)) hx hb dX5_one_231 (by decide) ?_
              refine lv_isub hx hb dX5_one_232 ?_
              obtain ⟨a_48, ci_49, fs_50, hp_51, er, he, hc, hA, hkl, eh, hw⟩ := zpt_e hw
              refine zw_put hk hH hz hS er he hA hkl eh (fp_X5_438 hc) rfl rfl dX5_one_233 (fun H locs hH hz hS => ?_)
              refine zr_aload_n (r := some h0) hx hb dX5_one_236 rfl (lv_at hl 0 rfl) ?_
              refine lv_sipush (v := (200 : Int32)) hx hb dX5_one_237 (by decide) ?_
              obtain ⟨a_54, ci_55, fs_56, er, he, hc, hw⟩ := zo_e hw
              obtain rfl := List.mem_singleton.mp hc
              refine zr_callv (zw_runV (As := [.int (200 : Int32)]) hk hH hz hS hl.1 er hw (cwV 1 hts (lw_V q3135 q3137 qs104 q162 q3138) rfl rfl rfl (by decide +kernel) (z_room (Nat.le_of_ble_eq_true rfl))) he rfl rfl rfl (Nat.le_of_ble_eq_true rfl) dX5_one_240 ⟨Nat.le_of_ble_eq_true rfl, Nat.le_of_ble_eq_true rfl⟩) hS (fun hp_52 nx_53 hw H locs hH hz hS => ?_)
              refine lv_goto (tgt := 268) hx hb dX5_one_243 (by decide) ?_
              exact hJ_268 hp_52 nx_53 _ _ _ hw hl hH hz hS
            · have hw := hw.1 hc
              exact zr_vret hk hr hH hz hS hw (Nat.le_of_ble_eq_true rfl) (Nat.le_of_ble_eq_true rfl) dX5_one_221
        · have hw := hw.1 hc
          refine zr_aload_n (r := some h0) hx hb dX5_one_138 rfl (lv_at hl 0 rfl) ?_
          obtain ⟨a_99, ci_100, fs_101, er, he, hc, hw⟩ := zo_e hw
          obtain rfl := List.mem_singleton.mp hc
          refine zr_calli (zw_runV (As := []) hk hH hz hS hl.1 er hw (cwV 0 hts (lw_V q3090 q3092 qs96 q162 q3093) rfl rfl rfl (by decide +kernel) (z_room (Nat.le_of_ble_eq_true rfl))) he rfl rfl rfl (Nat.le_of_ble_eq_true rfl) dX5_one_139 ⟨Nat.le_of_ble_eq_true rfl, Nat.le_of_ble_eq_true rfl⟩) hS (fun x_68 hp_66 nx_67 hw H locs hH hz hS => ?_)
          refine lv_istore_n (i := 1) (lv' := [(1, .int x_68), (0, va_rf (some h0))]) hx hb dX5_one_142 rfl hl (by decide) (by first | rfl | simp [List.filter_cons, z_cat, z_catI, z_catJ, z_catF, z_catD]) (fun ls hl => ?_)
          refine zr_aload_n (r := some h0) hx hb dX5_one_143 rfl (lv_at hl 1 rfl) ?_
          obtain ⟨a_96, ci_97, fs_98, er, he, hc, hw⟩ := zo_e hw
          obtain rfl := List.mem_singleton.mp hc
          refine zr_callv (zw_runV (As := []) hk hH hz hS hl.1 er hw (cwV 0 hts (lw_V q3082 q3084 qs94 q162 q3085) rfl rfl rfl (by decide +kernel) (z_room (Nat.le_of_ble_eq_true rfl))) he rfl rfl rfl (Nat.le_of_ble_eq_true rfl) dX5_one_144 ⟨Nat.le_of_ble_eq_true rfl, Nat.le_of_ble_eq_true rfl⟩) hS (fun hp_69 nx_70 hw H locs hH hz hS => ?_)
          refine lv_iload_n hx hb dX5_one_147 rfl (lv_at hl 0 rfl) ?_
          refine lv_iconst (v := (5 : Int32)) hx hb dX5_one_148 (by decide) ?_
          refine lv_icmp_ge (tgt := 158) hx hb dX5_one_149 (by decide) (fun hc => ?_) (fun hc => ?_)
          · have hw := hw.1 hc
            refine zr_aload_n (r := some h0) hx hb dX5_one_158 rfl (lv_at hl 1 rfl) ?_
            refine lv_iload_n hx hb dX5_one_159 rfl (lv_at hl 0 rfl) ?_
            refine lv_iconst (v := (5 : Int32)) hx hb dX5_one_160 (by decide) ?_
            obtain ⟨P_169, hP_169, hw⟩ := hw
            have hJ_169 : ∀ (x_71 : Int32) (r_72 : Option Nat) (x_73 : Int32) (hp_74 : zHp) (nx_75 : Nat) (H : Heap) (locs : List Loc) (ls : Array Slot), P_169 x_71 r_72 x_73 hp_74 nx_75 → lv_has ls 2 [(0, va_rf (some h0)), (1, .int x_71)] → zHd g hp_74 H → H.size = nx_75 → va_S (zAd g) s.heap H locs → W p l e (zrm (d + 1) 0 0) s m ([.ref h0] : List Value).toArray below meth c H locs 0 0 (MQ below (zQv g Post) ([.ref h0] : List Value).toArray s 0 0 (zAd g)) (F0 m 169 ls [.int x_73, va_rf r_72]) := by
              intro x_71 r_72 x_73 hp_74 nx_75 H locs ls hw hl hH hz hS
              have hw := hP_169 x_71 r_72 x_73 hp_74 nx_75 hw
              obtain ⟨a_88, ci_89, fs_90, er, he, hc, hw⟩ := zo_e hw
              obtain rfl := List.mem_singleton.mp hc
              refine zr_callv (zw_runV (As := [.int x_73]) hk hH hz hS hl.1 er hw (cwV 1 hts (lw_V q3143 q3145 qs106 q162 q3146) rfl rfl rfl (by decide +kernel) (z_room (Nat.le_of_ble_eq_true rfl))) he rfl rfl rfl (Nat.le_of_ble_eq_true rfl) dX5_one_169 ⟨Nat.le_of_ble_eq_true rfl, Nat.le_of_ble_eq_true rfl⟩) hS (fun hp_76 nx_77 hw H locs hH hz hS => ?_)
              refine zr_aload_n (r := some h0) hx hb dX5_one_172 rfl (lv_at hl 0 rfl) ?_
              refine lv_iload_n hx hb dX5_one_173 rfl (lv_at hl 1 rfl) ?_
              refine lv_iconst (v := (5 : Int32)) hx hb dX5_one_174 (by decide) ?_
              obtain ⟨P_199, hP_199, hw⟩ := hw
              have hJ_199 : ∀ (x_78 : Int32) (r_79 : Option Nat) (x_80 : Int32) (hp_81 : zHp) (nx_82 : Nat) (H : Heap) (locs : List Loc) (ls : Array Slot), P_199 x_78 r_79 x_80 hp_81 nx_82 → lv_has ls 2 [(0, va_rf (some h0)), (1, .int x_78)] → zHd g hp_81 H → H.size = nx_82 → va_S (zAd g) s.heap H locs → W p l e (zrm (d + 1) 0 0) s m ([.ref h0] : List Value).toArray below meth c H locs 0 0 (MQ below (zQv g Post) ([.ref h0] : List Value).toArray s 0 0 (zAd g)) (F0 m 199 ls [.int x_80, va_rf r_79]) := by
                intro x_78 r_79 x_80 hp_81 nx_82 H locs ls hw hl hH hz hS
                have hw := hP_199 x_78 r_79 x_80 hp_81 nx_82 hw
                obtain ⟨a_85, ci_86, fs_87, er, he, hc, hw⟩ := zo_e hw
                obtain rfl := List.mem_singleton.mp hc
                refine zr_callv (zw_runV (As := [.int x_80]) hk hH hz hS hl.1 er hw (cwV 1 hts (lw_V q3135 q3137 qs104 q162 q3138) rfl rfl rfl (by decide +kernel) (z_room (Nat.le_of_ble_eq_true rfl))) he rfl rfl rfl (Nat.le_of_ble_eq_true rfl) dX5_one_199 ⟨Nat.le_of_ble_eq_true rfl, Nat.le_of_ble_eq_true rfl⟩) hS (fun hp_83 nx_84 hw H locs hH hz hS => ?_)
                refine lv_goto (tgt := 268) hx hb dX5_one_202 (by decide) ?_
                exact hJ_268 hp_83 nx_84 _ _ _ hw (lv_sub hl [0] rfl) hH hz hS
              refine lv_icmp_ne (tgt := 184) hx hb dX5_one_175 (by decide) (fun hc => ?_) (fun hc => ?_)
              · have hw := hw.2 hc
                refine lv_iload_n hx hb dX5_one_184 rfl (lv_at hl 1 rfl) ?_
                refine lv_bipush (v := (6 : Int32)) hx hb dX5_one_185 (by decide) ?_
                refine lv_icmp_ne (tgt := 196) hx hb dX5_one_187 (by decide) (fun hc => ?_) (fun hc => ?_)
                · have hw := hw.2 hc
                  refine lv_sipush (v := (209 : Int32)) hx hb dX5_one_196 (by decide) ?_
                  exact hJ_199 x_71 (some h0) (209 : Int32) hp_76 nx_77 _ _ _ hw hl hH hz hS
                · have hw := hw.1 hc
                  refine lv_sipush (v := (208 : Int32)) hx hb dX5_one_190 (by decide) ?_
                  refine lv_goto (tgt := 199) hx hb dX5_one_193 (by decide) ?_
                  exact hJ_199 x_71 (some h0) (208 : Int32) hp_76 nx_77 _ _ _ hw hl hH hz hS
              · have hw := hw.1 hc
                refine lv_sipush (v := (210 : Int32)) hx hb dX5_one_178 (by decide) ?_
                refine lv_goto (tgt := 199) hx hb dX5_one_181 (by decide) ?_
                exact hJ_199 x_71 (some h0) (210 : Int32) hp_76 nx_77 _ _ _ hw hl hH hz hS
            refine lv_icmp_ne (tgt := 168) hx hb dX5_one_161 (by decide) (fun hc => ?_) (fun hc => ?_)
            · have hw := hw.2 hc
              refine lv_iconst (v := (2 : Int32)) hx hb dX5_one_168 (by decide) ?_
              exact hJ_169 x_68 (some h0) (2 : Int32) hp_69 nx_70 _ _ _ hw (lv_sub hl [1, 0] rfl) hH hz hS
            · have hw := hw.1 hc
              refine lv_iconst (v := (3 : Int32)) hx hb dX5_one_164 (by decide) ?_
              refine lv_goto (tgt := 169) hx hb dX5_one_165 (by decide) ?_
              exact hJ_169 x_68 (some h0) (3 : Int32) hp_69 nx_70 _ _ _ hw (lv_sub hl [1, 0] rfl) hH hz hS
          · have hw := hw.2 hc
            refine zr_aload_n (r := some h0) hx hb dX5_one_152 rfl (lv_at hl 1 rfl) ?_
            refine lv_iload_n hx hb dX5_one_153 rfl (lv_at hl 0 rfl) ?_
            obtain ⟨a_93, ci_94, fs_95, er, he, hc, hw⟩ := zo_e hw
            obtain rfl := List.mem_singleton.mp hc
            refine zr_callv (zw_runV (As := [.int x_68]) hk hH hz hS hl.1 er hw (cwV 1 hts (lw_V q3139 q3141 qs105 q162 q3142) rfl rfl rfl (by decide +kernel) (z_room (Nat.le_of_ble_eq_true rfl))) he rfl rfl rfl (Nat.le_of_ble_eq_true rfl) dX5_one_154 ⟨Nat.le_of_ble_eq_true rfl, Nat.le_of_ble_eq_true rfl⟩) hS (fun hp_91 nx_92 hw H locs hH hz hS => ?_)
            exact zr_vret hk hr hH hz hS hw (Nat.le_of_ble_eq_true rfl) (Nat.le_of_ble_eq_true rfl) dX5_one_157
      refine lv_icmp_ne (tgt := 130) hx hb dX5_one_92 (by decide) (fun hc => ?_) (fun hc => ?_)
      · have hw := hw.2 hc
        exact hJ_130 hp nx _ _ _ hw hl hH hz hS
      · have hw := hw.1 hc
        refine zr_aload_n (r := some h0) hx hb dX5_one_95 rfl (lv_at hl 0 rfl) ?_
        obtain ⟨a_102, ci_103, fs_104, x_105, er, he, hc, hv, hw⟩ := zgI_e hw
        refine zw_get hk hH er he hv (fk_X5_351 hc) dX5_one_96 ?_
        refine zr_aload_n (r := some h0) hx hb dX5_one_99 rfl (lv_at hl 0 rfl) ?_
        obtain ⟨a_106, ci_107, fs_108, x_109, er, he, hc, hv, hw⟩ := zgI_e hw
        refine zw_get hk hH er he hv (fk_X5_361 hc) dX5_one_100 ?_
        refine lv_isub hx hb dX5_one_103 ?_
        refine lv_iconst (v := (1 : Int32)) hx hb dX5_one_104 (by decide) ?_
        refine lv_icmp_ne (tgt := 130) hx hb dX5_one_105 (by decide) (fun hc => ?_) (fun hc => ?_)
        · have hw := hw.2 hc
          exact hJ_130 hp nx _ _ _ hw hl hH hz hS
        · have hw := hw.1 hc
          refine zr_aload_n (r := some h0) hx hb dX5_one_108 rfl (lv_at hl 0 rfl) ?_
          refine zr_aload_n (r := some h0) hx hb dX5_one_109 rfl (lv_at hl 0 rfl) ?_
          refine zr_aload_n (r := some h0) hx hb dX5_one_110 rfl (lv_at hl 0 rfl) ?_
          obtain ⟨a_110, ci_111, fs_112, x_113, er, he, hc, hv, hw⟩ := zgI_e hw
          refine zw_get hk hH er he hv (fk_X5_361 hc) dX5_one_111 ?_
          obtain ⟨a_127, ci_128, fs_129, er, he, hc, hw⟩ := zo_e hw
          obtain rfl := List.mem_singleton.mp hc
          refine zr_calli (zw_runV (As := [.int x_113]) hk hH hz hS hl.1 er hw (cwV 1 hts (lw_V q3086 q3088 qs95 q162 q3089) rfl rfl rfl (by decide +kernel) (z_room (Nat.le_of_ble_eq_true rfl))) he rfl rfl rfl (by simp only [List.map_cons, List.map_nil, z_cat]; exact Nat.le_of_ble_eq_true rfl) dX5_one_114 ⟨Nat.le_of_ble_eq_true rfl, Nat.le_of_ble_eq_true rfl⟩) hS (fun x_116 hp_114 nx_115 hw H locs hH hz hS => ?_)
          refine lv_bipush (v := (97 : Int32)) hx hb dX5_one_117 (by decide) ?_
          refine lv_isub hx hb dX5_one_119 ?_
          obtain ⟨a_124, ci_125, fs_126, er, he, hc, hw⟩ := zo_e hw
          obtain rfl := List.mem_singleton.mp hc
          refine zr_callv (zw_runV (As := [.int (x_116 - (97 : Int32))]) hk hH hz hS hl.1 er hw (cwV 1 hts (lw_V q3135 q3137 qs104 q162 q3138) rfl rfl rfl (by decide +kernel) (z_room (Nat.le_of_ble_eq_true rfl))) he rfl rfl rfl (Nat.le_of_ble_eq_true rfl) dX5_one_120 ⟨Nat.le_of_ble_eq_true rfl, Nat.le_of_ble_eq_true rfl⟩) hS (fun hp_117 nx_118 hw H locs hH hz hS => ?_)
          refine zr_aload_n (r := some h0) hx hb dX5_one_123 rfl (lv_at hl 0 rfl) ?_
          obtain ⟨a_121, ci_122, fs_123, er, he, hc, hw⟩ := zo_e hw
          obtain rfl := List.mem_singleton.mp hc
          refine zr_callv (zw_runV (As := []) hk hH hz hS hl.1 er hw (cwV 0 hts (lw_V q3082 q3084 qs94 q162 q3085) rfl rfl rfl (by decide +kernel) (z_room (Nat.le_of_ble_eq_true rfl))) he rfl rfl rfl (Nat.le_of_ble_eq_true rfl) dX5_one_124 ⟨Nat.le_of_ble_eq_true rfl, Nat.le_of_ble_eq_true rfl⟩) hS (fun hp_119 nx_120 hw H locs hH hz hS => ?_)
          refine lv_goto (tgt := 268) hx hb dX5_one_127 (by decide) ?_
          exact hJ_268 hp_119 nx_120 _ _ _ hw hl hH hz hS
    · have hw := hw.1 hc
      refine zr_aload_n (r := some h0) hx hb dX5_one_16 rfl (lv_at hl 0 rfl) ?_
      obtain ⟨a_130, ci_131, fs_132, r_133, er, he, hc, hv, hw⟩ := zgR_e hw
      refine zw_get hk hH er he hv (fk_X5_108 hc) dX5_one_17 ?_
      refine zr_aload_n (r := some h0) hx hb dX5_one_20 rfl (lv_at hl 0 rfl) ?_
      obtain ⟨a_134, ci_135, fs_136, x_137, er, he, hc, hv, hw⟩ := zgI_e hw
      refine zw_get hk hH er he hv (fk_X5_450 hc) dX5_one_21 ?_
      refine zr_aload_n (r := some h0) hx hb dX5_one_24 rfl (lv_at hl 0 rfl) ?_
      obtain ⟨a_138, ci_139, fs_140, x_141, er, he, hc, hv, hw⟩ := zgI_e hw
      refine zw_get hk hH er he hv (fk_X5_391 hc) dX5_one_25 ?_
      refine lv_iconst (v := (-1 : Int32)) hx hb dX5_one_28 (by decide) ?_
      obtain ⟨P_58, hP_58, hw⟩ := hw
      have hJ_58 : ∀ (r_142 : Option Nat) (x_143 : Int32) (x_144 : UInt64) (hp_145 : zHp) (nx_146 : Nat) (H : Heap) (locs : List Loc) (ls : Array Slot), P_58 r_142 x_143 x_144 hp_145 nx_146 → lv_has ls 2 [(0, va_rf (some h0))] → zHd g hp_145 H → H.size = nx_146 → va_S (zAd g) s.heap H locs → W p l e (zrm (d + 1) 0 0) s m ([.ref h0] : List Value).toArray below meth c H locs 0 0 (MQ below (zQv g Post) ([.ref h0] : List Value).toArray s 0 0 (zAd g)) (F0 m 58 ls [.double x_144, .int x_143, va_rf r_142]) := by
        intro r_142 x_143 x_144 hp_145 nx_146 H locs ls hw hl hH hz hS
        have hw := hP_58 r_142 x_143 x_144 hp_145 nx_146 hw
        obtain ⟨a_147, n_148, f_149, er, he, hi, hA, hw⟩ := zaD_e hw
        obtain ⟨hp_150, eh⟩ : ∃ y : zHp, y = va_up hp_145 a_147 (some (.inl (g.2.1 1, n_148, .inr (.inr (.inr (.inl (va_up f_149 x_143.toNatClampNeg x_144))))))) := ⟨_, rfl⟩
        have hw := hw hp_150 eh
        refine zw_dast hk hH hz hS er he hi hA eh dX5_one_58 (fun H locs hH hz hS => ?_)
        refine zr_aload_n (r := some h0) hx hb dX5_one_59 rfl (lv_at hl 0 rfl) ?_
        refine lv_bipush (v := (100 : Int32)) hx hb dX5_one_60 (by decide) ?_
        refine zr_aload_n (r := some h0) hx hb dX5_one_62 rfl (lv_at hl 0 rfl) ?_
        obtain ⟨a_151, ci_152, fs_153, x_154, er, he, hc, hv, hw⟩ := zgI_e hw
        refine zw_get hk hH er he hv (fk_X5_450 hc) dX5_one_63 ?_
        refine lv_iadd hx hb dX5_one_66 ?_
        obtain ⟨a_170, ci_171, fs_172, er, he, hc, hw⟩ := zo_e hw
        obtain rfl := List.mem_singleton.mp hc
        refine zr_callv (zw_runV (As := [.int ((100 : Int32) + x_154)]) hk hH hz hS hl.1 er hw (cwV 1 hts (lw_V q3135 q3137 qs104 q162 q3138) rfl rfl rfl (by decide +kernel) (z_room (Nat.le_of_ble_eq_true rfl))) he rfl rfl rfl (Nat.le_of_ble_eq_true rfl) dX5_one_67 ⟨Nat.le_of_ble_eq_true rfl, Nat.le_of_ble_eq_true rfl⟩) hS (fun hp_155 nx_156 hw H locs hH hz hS => ?_)
        refine zr_aload_n (r := some h0) hx hb dX5_one_70 rfl (lv_at hl 0 rfl) ?_
        refine lv_dup hx hb dX5_one_71 (z_cat _) ?_
        obtain ⟨a_157, ci_158, fs_159, x_160, er, he, hc, hv, hw⟩ := zgI_e hw
        refine zw_get hk hH er he hv (fk_X5_450 hc) dX5_one_72 ?_
        refine lv_iconst (v := (1 : Int32)) hx hb dX5_one_75 (by decide) ?_
        refine lv_iadd hx hb dX5_one_76 ?_
        obtain ⟨a_161, ci_162, fs_163, hp_164, er, he, hc, hA, hkl, eh, hw⟩ := zpt_e hw
        refine zw_put hk hH hz hS er he hA hkl eh (fp_X5_450 hc) rfl rfl dX5_one_77 (fun H locs hH hz hS => ?_)
        refine zr_aload_n (r := some h0) hx hb dX5_one_80 rfl (lv_at hl 0 rfl) ?_
        obtain ⟨a_167, ci_168, fs_169, er, he, hc, hw⟩ := zo_e hw
        obtain rfl := List.mem_singleton.mp hc
        refine zr_callv (zw_runV (As := []) hk hH hz hS hl.1 er hw (cwV 0 hts (lw_V q3082 q3084 qs94 q162 q3085) rfl rfl rfl (by decide +kernel) (z_room (Nat.le_of_ble_eq_true rfl))) he rfl rfl rfl (Nat.le_of_ble_eq_true rfl) dX5_one_81 ⟨Nat.le_of_ble_eq_true rfl, Nat.le_of_ble_eq_true rfl⟩) hS (fun hp_165 nx_166 hw H locs hH hz hS => ?_)
        refine lv_goto (tgt := 268) hx hb dX5_one_84 (by decide) ?_
        exact hJ_268 hp_165 nx_166 _ _ _ hw hl hH hz hS
      refine lv_icmp_ne (tgt := 40) hx hb dX5_one_29 (by decide) (fun hc => ?_) (fun hc => ?_)
      · have hw := hw.2 hc
        refine lv_sipush (v := (1000 : Int32)) hx hb dX5_one_40 (by decide) ?_
        refine zr_aload_n (r := some h0) hx hb dX5_one_43 rfl (lv_at hl 0 rfl) ?_
        obtain ⟨a_173, ci_174, fs_175, x_176, er, he, hc, hv, hw⟩ := zgI_e hw
        refine zw_get hk hH er he hv (fk_X5_388 hc) dX5_one_44 ?_
        refine lv_imul hx hb dX5_one_47 ?_
        refine zr_aload_n (r := some h0) hx hb dX5_one_48 rfl (lv_at hl 0 rfl) ?_
        obtain ⟨a_177, ci_178, fs_179, x_180, er, he, hc, hv, hw⟩ := zgI_e hw
        refine zw_get hk hH er he hv (fk_X5_391 hc) dX5_one_49 ?_
        refine lv_iadd hx hb dX5_one_52 ?_
        refine lv_i2d hx hb dX5_one_53 ?_
        refine lv_ldc2d hx hb hown (hts _ q2932) dX5_one_54 ?_
        obtain ⟨hne, hw⟩ := hw
        refine lv_ddiv hx hb dX5_one_57 hne ?_
        exact hJ_58 r_133 x_137 (FP.ddiv (FP.i2d (((1000 : Int32) * x_176) + x_180)) (4652007308841189376 : UInt64)) hp nx _ _ _ hw hl hH hz hS
      · have hw := hw.1 hc
        refine zr_aload_n (r := some h0) hx hb dX5_one_32 rfl (lv_at hl 0 rfl) ?_
        obtain ⟨a_181, ci_182, fs_183, x_184, er, he, hc, hv, hw⟩ := zgI_e hw
        refine zw_get hk hH er he hv (fk_X5_388 hc) dX5_one_33 ?_
        refine lv_i2d hx hb dX5_one_36 ?_
        refine lv_goto (tgt := 58) hx hb dX5_one_37 (by decide) ?_
        exact hJ_58 r_133 x_137 (FP.i2d x_184) hp nx _ _ _ hw hl hH hz hS
  · have hw := hw.2 hc
    exact zr_vret hk hr hH hz hS hw (Nat.le_of_ble_eq_true rfl) (Nat.le_of_ble_eq_true rfl) dX5_one_7
def wp_X5_mark (l : Launch) (g : zG) (d : Nat) (h0 : Nat) (x1 : Int32) (hp : zHp) (nx : Nat) (Post : zHp → Nat → Prop) : Prop :=
  (zgI hp (some h0) [5] 46 fun x_4 =>
  ((x_4 = 0 →
  (zgR hp (some h0) [5] 35 fun r_8 =>
  (zgI hp (some h0) [5] 37 fun x_12 =>
  (zaI (g.2.1 0) hp r_8 fun a_13 n_14 f_15 => vp_in x_12 n_14 ∧ zB g ≤ a_13 ∧ ∀ hp_16 : zHp, hp_16 = va_up hp a_13 (some (.inl (g.2.1 0, n_14, .inl (va_up f_15 x_12.toNatClampNeg x1)))) →
  (zgI hp_16 (some h0) [5] 37 fun x_20 =>
  (zpt g hp_16 (some h0) [5] 37 (.int (x_20 + (1 : Int32))) fun hp_24 =>
  (Post hp_24 nx))))))) ∧
  (¬ x_4 = 0 →
  (Post hp nx))))
set_option maxHeartbeats 40000000 in
theorem met_X5_mark {l : Launch} {g : zG} {d : Nat} {h0 : Nat} {x1 : Int32} {hp : zHp} {nx : Nat} {Post : zHp → Nat → Prop} (hw : wp_X5_mark l g d h0 x1 hp nx Post) : zMt l g yX5_mark cX5_mark 2 none (d + 1) 0 0 [.ref h0, .int x1] hp nx (zQv g Post) := by
  refine z_start (by decide) (Nat.le_of_ble_eq_true rfl) ?_
  intro p e s m below meth c hk hr hin hH hz ls hl
  have hx := hk.1.1
  have hb := hk.1.2.1
  have hown := hk.1.2.2.2.1
  have hts := hk.1.2.2.2.2
  have hS : va_S (zAd g) s.heap s.heap [] := va_S.rf
  have hl : lv_has ls 2 [(0, va_rf (some h0)), (1, .int x1)] := hl
  unfold wp_X5_mark at hw
  refine zr_aload_n (r := some h0) hx hb dX5_mark_0 rfl (lv_at hl 0 rfl) ?_
  obtain ⟨a_1, ci_2, fs_3, x_4, er, he, hc, hv, hw⟩ := zgI_e hw
  refine zw_get hk hH er he hv (fk_X5_357 hc) dX5_mark_1 ?_
  refine lv_if_eq (tgt := 8) hx hb dX5_mark_4 (by decide) (fun hc => ?_) (fun hc => ?_)
  · have hw := hw.1 hc
    refine zr_aload_n (r := some h0) hx hb dX5_mark_8 rfl (lv_at hl 0 rfl) ?_
    obtain ⟨a_5, ci_6, fs_7, r_8, er, he, hc, hv, hw⟩ := zgR_e hw
    refine zw_get hk hH er he hv (fk_X5_105 hc) dX5_mark_9 ?_
    refine zr_aload_n (r := some h0) hx hb dX5_mark_12 rfl (lv_at hl 0 rfl) ?_
    obtain ⟨a_9, ci_10, fs_11, x_12, er, he, hc, hv, hw⟩ := zgI_e hw
    refine zw_get hk hH er he hv (fk_X5_424 hc) dX5_mark_13 ?_
    refine lv_iload_n hx hb dX5_mark_16 rfl (lv_at hl 1 rfl) ?_
    obtain ⟨a_13, n_14, f_15, er, he, hi, hA, hw⟩ := zaI_e hw
    obtain ⟨hp_16, eh⟩ : ∃ y : zHp, y = va_up hp a_13 (some (.inl (g.2.1 0, n_14, .inl (va_up f_15 x_12.toNatClampNeg x1)))) := ⟨_, rfl⟩
    have hw := hw hp_16 eh
    refine zw_iast hk hH hz hS er he hi hA eh dX5_mark_17 (fun H locs hH hz hS => ?_)
    refine zr_aload_n (r := some h0) hx hb dX5_mark_18 rfl (lv_at hl 0 rfl) ?_
    refine lv_dup hx hb dX5_mark_19 (z_cat _) ?_
    obtain ⟨a_17, ci_18, fs_19, x_20, er, he, hc, hv, hw⟩ := zgI_e hw
    refine zw_get hk hH er he hv (fk_X5_424 hc) dX5_mark_20 ?_
    refine lv_iconst (v := (1 : Int32)) hx hb dX5_mark_23 (by decide) ?_
    refine lv_iadd hx hb dX5_mark_24 ?_
    obtain ⟨a_21, ci_22, fs_23, hp_24, er, he, hc, hA, hkl, eh, hw⟩ := zpt_e hw
    refine zw_put hk hH hz hS er he hA hkl eh (fp_X5_424 hc) rfl rfl dX5_mark_25 (fun H locs hH hz hS => ?_)
    exact zr_vret hk hr hH hz hS hw (Nat.le_of_ble_eq_true rfl) (Nat.le_of_ble_eq_true rfl) dX5_mark_28
  · have hw := hw.2 hc
    exact zr_vret hk hr hH hz hS hw (Nat.le_of_ble_eq_true rfl) (Nat.le_of_ble_eq_true rfl) dX5_mark_7
def wp_X5_ofTable (l : Launch) (g : zG) (d : Nat) (h0 : Nat) (x1 : Int32) (hp : zHp) (nx : Nat) (Post : zHp → Nat → Prop) : Prop :=
  (zgI hp (some h0) [5] 46 fun x_4 =>
  ((x_4 = 0 →
  (zgI hp (some h0) [5] 41 fun x_8 =>
  (∃ P_33 : zHp → Nat → Prop, (∀ (hp_9 : zHp) (nx_10 : Nat), P_33 hp_9 nx_10 →
  (zpt g hp_9 (some h0) [5] 46 (.int (1 : Int32)) fun hp_14 =>
  (Post hp_14 nx_10))) ∧
  ((x_8 = (2 : Int32) →
  (zgI hp (some h0) [5] 44 fun x_18 =>
  ((x_18 = (-1 : Int32) →
  (zgI hp (some h0) [5] 43 fun x_22 =>
  ((x_22 < (6 : Int32) →
  (zgI hp (some h0) [5] 43 fun x_26 =>
  (zo hp (some h0) [5] fun a_34 ci_35 fs_36 => zMt l g yX5_mark cX5_mark 2 none d 0 0 (.ref a_34 :: [.int (((300 : Int32) + ((10 : Int32) * x1)) + x_26)]) hp nx (zQv g fun hp_27 nx_28 =>
  (zo hp_27 (some h0) [5] fun a_31 ci_32 fs_33 => zMt l g yX5_next cX5_next 1 none d 0 0 (.ref a_31 :: []) hp_27 nx_28 (zQv g fun hp_29 nx_30 =>
  (Post hp_29 nx_30))))))) ∧
  (¬ x_22 < (6 : Int32) →
  P_33 hp nx)))) ∧
  (¬ x_18 = (-1 : Int32) →
  P_33 hp nx)))) ∧
  (¬ x_8 = (2 : Int32) →
  P_33 hp nx))))) ∧
  (¬ x_4 = 0 →
  (Post hp nx))))
set_option maxHeartbeats 40000000 in
theorem met_X5_ofTable {l : Launch} {g : zG} {d : Nat} {h0 : Nat} {x1 : Int32} {hp : zHp} {nx : Nat} {Post : zHp → Nat → Prop} (hw : wp_X5_ofTable l g d h0 x1 hp nx Post) : zMt l g yX5_ofTable cX5_ofTable 2 none (d + 1) 0 0 [.ref h0, .int x1] hp nx (zQv g Post) := by
  refine z_start (by decide) (Nat.le_of_ble_eq_true rfl) ?_
  intro p e s m below meth c hk hr hin hH hz ls hl
  have hx := hk.1.1
  have hb := hk.1.2.1
  have hown := hk.1.2.2.2.1
  have hts := hk.1.2.2.2.2
  have hS : va_S (zAd g) s.heap s.heap [] := va_S.rf
  have hl : lv_has ls 2 [(0, va_rf (some h0)), (1, .int x1)] := hl
  unfold wp_X5_ofTable at hw
  refine zr_aload_n (r := some h0) hx hb dX5_ofTable_0 rfl (lv_at hl 0 rfl) ?_
  obtain ⟨a_1, ci_2, fs_3, x_4, er, he, hc, hv, hw⟩ := zgI_e hw
  refine zw_get hk hH er he hv (fk_X5_357 hc) dX5_ofTable_1 ?_
  refine lv_if_eq (tgt := 8) hx hb dX5_ofTable_4 (by decide) (fun hc => ?_) (fun hc => ?_)
  · have hw := hw.1 hc
    refine zr_aload_n (r := some h0) hx hb dX5_ofTable_8 rfl (lv_at hl 0 rfl) ?_
    obtain ⟨a_5, ci_6, fs_7, x_8, er, he, hc, hv, hw⟩ := zgI_e hw
    refine zw_get hk hH er he hv (fk_X5_364 hc) dX5_ofTable_9 ?_
    refine lv_iconst (v := (2 : Int32)) hx hb dX5_ofTable_12 (by decide) ?_
    obtain ⟨P_33, hP_33, hw⟩ := hw
    have hJ_33 : ∀ (hp_9 : zHp) (nx_10 : Nat) (H : Heap) (locs : List Loc) (ls : Array Slot), P_33 hp_9 nx_10 → lv_has ls 2 [(0, va_rf (some h0)), (1, .int x1)] → zHd g hp_9 H → H.size = nx_10 → va_S (zAd g) s.heap H locs → W p l e (zrm (d + 1) 0 0) s m ([.ref h0, .int x1] : List Value).toArray below meth c H locs 0 0 (MQ below (zQv g Post) ([.ref h0, .int x1] : List Value).toArray s 0 0 (zAd g)) (F0 m 33 ls []) := by
      intro hp_9 nx_10 H locs ls hw hl hH hz hS
      have hw := hP_33 hp_9 nx_10 hw
      refine zr_aload_n (r := some h0) hx hb dX5_ofTable_33 rfl (lv_at hl 0 rfl) ?_
      refine lv_iconst (v := (1 : Int32)) hx hb dX5_ofTable_34 (by decide) ?_
      obtain ⟨a_11, ci_12, fs_13, hp_14, er, he, hc, hA, hkl, eh, hw⟩ := zpt_e hw
      refine zw_put hk hH hz hS er he hA hkl eh (fp_X5_357 hc) (z_nb (Or.inr rfl)) (z_fb (Or.inr rfl)) dX5_ofTable_35 (fun H locs hH hz hS => ?_)
      exact zr_vret hk hr hH hz hS hw (Nat.le_of_ble_eq_true rfl) (Nat.le_of_ble_eq_true rfl) dX5_ofTable_38
    refine lv_icmp_ne (tgt := 33) hx hb dX5_ofTable_13 (by decide) (fun hc => ?_) (fun hc => ?_)
    · have hw := hw.2 hc
      exact hJ_33 hp nx _ _ _ hw hl hH hz hS
    · have hw := hw.1 hc
      refine zr_aload_n (r := some h0) hx hb dX5_ofTable_16 rfl (lv_at hl 0 rfl) ?_
      obtain ⟨a_15, ci_16, fs_17, x_18, er, he, hc, hv, hw⟩ := zgI_e hw
      refine zw_get hk hH er he hv (fk_X5_391 hc) dX5_ofTable_17 ?_
      refine lv_iconst (v := (-1 : Int32)) hx hb dX5_ofTable_20 (by decide) ?_
      refine lv_icmp_ne (tgt := 33) hx hb dX5_ofTable_21 (by decide) (fun hc => ?_) (fun hc => ?_)
      · have hw := hw.2 hc
        exact hJ_33 hp nx _ _ _ hw hl hH hz hS
      · have hw := hw.1 hc
        refine zr_aload_n (r := some h0) hx hb dX5_ofTable_24 rfl (lv_at hl 0 rfl) ?_
        obtain ⟨a_19, ci_20, fs_21, x_22, er, he, hc, hv, hw⟩ := zgI_e hw
        refine zw_get hk hH er he hv (fk_X5_388 hc) dX5_ofTable_25 ?_
        refine lv_bipush (v := (6 : Int32)) hx hb dX5_ofTable_28 (by decide) ?_
        refine lv_icmp_lt (tgt := 39) hx hb dX5_ofTable_30 (by decide) (fun hc => ?_) (fun hc => ?_)
        · have hw := hw.1 hc
          refine zr_aload_n (r := some h0) hx hb dX5_ofTable_39 rfl (lv_at hl 0 rfl) ?_
          refine lv_sipush (v := (300 : Int32)) hx hb dX5_ofTable_40 (by decide) ?_
          refine lv_bipush (v := (10 : Int32)) hx hb dX5_ofTable_43 (by decide) ?_
          refine lv_iload_n hx hb dX5_ofTable_45 rfl (lv_at hl 1 rfl) ?_
          refine lv_imul hx hb dX5_ofTable_46 ?_
          refine lv_iadd hx hb dX5_ofTable_47 ?_
          refine zr_aload_n (r := some h0) hx hb dX5_ofTable_48 rfl (lv_at hl 0 rfl) ?_
          obtain ⟨a_23, ci_24, fs_25, x_26, er, he, hc, hv, hw⟩ := zgI_e hw
          refine zw_get hk hH er he hv (fk_X5_388 hc) dX5_ofTable_49 ?_
          refine lv_iadd hx hb dX5_ofTable_52 ?_
          obtain ⟨a_34, ci_35, fs_36, er, he, hc, hw⟩ := zo_e hw
          obtain rfl := List.mem_singleton.mp hc
          refine zr_callv (zw_runV (As := [.int (((300 : Int32) + ((10 : Int32) * x1)) + x_26)]) hk hH hz hS hl.1 er hw (cwV 1 hts (lw_V q3135 q3137 qs104 q162 q3138) rfl rfl rfl (by decide +kernel) (z_room (Nat.le_of_ble_eq_true rfl))) he rfl rfl rfl (Nat.le_of_ble_eq_true rfl) dX5_ofTable_53 ⟨Nat.le_of_ble_eq_true rfl, Nat.le_of_ble_eq_true rfl⟩) hS (fun hp_27 nx_28 hw H locs hH hz hS => ?_)
          refine zr_aload_n (r := some h0) hx hb dX5_ofTable_56 rfl (lv_at hl 0 rfl) ?_
          obtain ⟨a_31, ci_32, fs_33, er, he, hc, hw⟩ := zo_e hw
          obtain rfl := List.mem_singleton.mp hc
          refine zr_callv (zw_runV (As := []) hk hH hz hS hl.1 er hw (cwV 0 hts (lw_V q3082 q3084 qs94 q162 q3085) rfl rfl rfl (by decide +kernel) (z_room (Nat.le_of_ble_eq_true rfl))) he rfl rfl rfl (Nat.le_of_ble_eq_true rfl) dX5_ofTable_57 ⟨Nat.le_of_ble_eq_true rfl, Nat.le_of_ble_eq_true rfl⟩) hS (fun hp_29 nx_30 hw H locs hH hz hS => ?_)
          exact zr_vret hk hr hH hz hS hw (Nat.le_of_ble_eq_true rfl) (Nat.le_of_ble_eq_true rfl) dX5_ofTable_60
        · have hw := hw.2 hc
          exact hJ_33 hp nx _ _ _ hw hl hH hz hS
  · have hw := hw.2 hc
    exact zr_vret hk hr hH hz hS hw (Nat.le_of_ble_eq_true rfl) (Nat.le_of_ble_eq_true rfl) dX5_ofTable_7
def wp_X5_parts (l : Launch) (g : zG) (d : Nat) (h0 : Nat) (x1 : Int32) (hp : zHp) (nx : Nat) (Post : zHp → Nat → Prop) : Prop :=
  (zo hp (some h0) [5] fun a_57 ci_58 fs_59 => zMt l g yX5_isSign cX5_isSign 2 (some .boolean) d 0 0 (.ref a_57 :: [.int (40 : Int32)]) hp nx (zQi g fun x_3 hp_1 nx_2 =>
  ((x_3 = 0 →
  (zpt g hp_1 (some h0) [5] 46 (.int (1 : Int32)) fun hp_56 =>
  (Post hp_56 nx_2))) ∧
  (¬ x_3 = 0 →
  (zo hp_1 (some h0) [5] fun a_50 ci_51 fs_52 => zMt l g yX5_opens cX5_opens 1 (some .boolean) d 0 0 (.ref a_50 :: []) hp_1 nx_2 (zQi g fun x_6 hp_4 nx_5 =>
  ((x_6 = 0 →
  (Post hp_4 nx_5)) ∧
  (¬ x_6 = 0 →
  (∃ I_25 : Nat → Int32 → zHp → Nat → Prop, (∃ n_49, I_25 n_49 (0 : Int32) hp_4 nx_5) ∧ ∀ (n_10 : Nat) (x_7 : Int32) (hp_8 : zHp) (nx_9 : Nat), I_25 n_10 x_7 hp_8 nx_9 →
  ((x1 ≤ x_7 →
  (zo hp_8 (some h0) [5] fun a_31 ci_32 fs_33 => zMt l g yX5_isSign cX5_isSign 2 (some .boolean) d 0 0 (.ref a_31 :: [.int (41 : Int32)]) hp_8 nx_9 (zQi g fun x_13 hp_11 nx_12 =>
  ((x_13 = 0 →
  (zpt g hp_11 (some h0) [5] 46 (.int (1 : Int32)) fun hp_30 =>
  (Post hp_30 nx_12))) ∧
  (¬ x_13 = 0 →
  (zgI hp_11 (some h0) [5] 45 fun x_17 =>
  (zpt g hp_11 (some h0) [5] 45 (.int (x_17 - (1 : Int32))) fun hp_21 =>
  (zo hp_21 (some h0) [5] fun a_24 ci_25 fs_26 => zMt l g yX5_next cX5_next 1 none d 0 0 (.ref a_24 :: []) hp_21 nx_12 (zQv g fun hp_22 nx_23 =>
  (Post hp_22 nx_23)))))))))) ∧
  (¬ x1 ≤ x_7 →
  (∃ P_40 : Int32 → zHp → Nat → Prop, (∀ (x_34 : Int32) (hp_35 : zHp) (nx_36 : Nat), P_40 x_34 hp_35 nx_36 →
  (zo hp_35 (some h0) [5] fun a_41 ci_42 fs_43 => zMt l g yX5_all cX5_all 2 none d 0 0 (.ref a_41 :: []) hp_35 nx_36 (zQv g fun hp_37 nx_38 =>
  (∀ x_39 : Int32, x_39 = x_34 + (1 : Int32) →
  (∃ k_40, k_40 < n_10 ∧ I_25 k_40 x_39 hp_37 nx_38))))) ∧
  ((x_7 ≤ 0 →
  P_40 x_7 hp_8 nx_9) ∧
  (¬ x_7 ≤ 0 →
  (zo hp_8 (some h0) [5] fun a_46 ci_47 fs_48 => zMt l g yX5_need cX5_need 2 none d 0 0 (.ref a_46 :: [.int (44 : Int32)]) hp_8 nx_9 (zQv g fun hp_44 nx_45 =>
  P_40 x_7 hp_44 nx_45))))))))))))))))
set_option maxHeartbeats 40000000 in
theorem met_X5_parts {l : Launch} {g : zG} {d : Nat} {h0 : Nat} {x1 : Int32} {hp : zHp} {nx : Nat} {Post : zHp → Nat → Prop} (hw : wp_X5_parts l g d h0 x1 hp nx Post) : zMt l g yX5_parts cX5_parts 3 none (d + 1) 0 0 [.ref h0, .int x1] hp nx (zQv g Post) := by
  refine z_start (by decide) (Nat.le_of_ble_eq_true rfl) ?_
  intro p e s m below meth c hk hr hin hH hz ls hl
  have hx := hk.1.1
  have hb := hk.1.2.1
  have hown := hk.1.2.2.2.1
  have hts := hk.1.2.2.2.2
  have hS : va_S (zAd g) s.heap s.heap [] := va_S.rf
  have hl : lv_has ls 3 [(0, va_rf (some h0)), (1, .int x1)] := hl
  unfold wp_X5_parts at hw
  refine zr_aload_n (r := some h0) hx hb dX5_parts_0 rfl (lv_at hl 0 rfl) ?_
  refine lv_bipush (v := (40 : Int32)) hx hb dX5_parts_1 (by decide) ?_
  obtain ⟨a_57, ci_58, fs_59, er, he, hc, hw⟩ := zo_e hw
  obtain rfl := List.mem_singleton.mp hc
  refine zr_calli (zw_runV (As := [.int (40 : Int32)]) hk hH hz hS hl.1 er hw (cwV 1 hts (lw_V q3147 q3149 qs107 q162 q3150) rfl rfl rfl (by decide +kernel) (z_room (Nat.le_of_ble_eq_true rfl))) he rfl rfl rfl (Nat.le_of_ble_eq_true rfl) dX5_parts_3 ⟨Nat.le_of_ble_eq_true rfl, Nat.le_of_ble_eq_true rfl⟩) hS (fun x_3 hp_1 nx_2 hw H locs hH hz hS => ?_)
  refine lv_if_ne (tgt := 15) hx hb dX5_parts_6 (by decide) (fun hc => ?_) (fun hc => ?_)
  · have hw := hw.2 hc
    refine zr_aload_n (r := some h0) hx hb dX5_parts_15 rfl (lv_at hl 0 rfl) ?_
    obtain ⟨a_50, ci_51, fs_52, er, he, hc, hw⟩ := zo_e hw
    obtain rfl := List.mem_singleton.mp hc
    refine zr_calli (zw_runV (As := []) hk hH hz hS hl.1 er hw (cwV 0 hts (lw_V q3151 q3153 qs108 q162 q3154) rfl rfl rfl (by decide +kernel) (z_room (Nat.le_of_ble_eq_true rfl))) he rfl rfl rfl (Nat.le_of_ble_eq_true rfl) dX5_parts_16 ⟨Nat.le_of_ble_eq_true rfl, Nat.le_of_ble_eq_true rfl⟩) hS (fun x_6 hp_4 nx_5 hw H locs hH hz hS => ?_)
    refine lv_if_ne (tgt := 23) hx hb dX5_parts_19 (by decide) (fun hc => ?_) (fun hc => ?_)
    · have hw := hw.2 hc
      refine lv_iconst (v := (0 : Int32)) hx hb dX5_parts_23 (by decide) ?_
      refine lv_istore_n (i := 2) (lv' := [(2, .int (0 : Int32)), (0, va_rf (some h0)), (1, .int x1)]) hx hb dX5_parts_24 rfl hl (by decide) (by first | rfl | simp [List.filter_cons, z_cat, z_catI, z_catJ, z_catF, z_catD]) (fun ls hl => ?_)
      obtain ⟨I_25, ⟨n_49, hI⟩, hB_25⟩ := hw
      have hL_25 : ∀ (n_10 : Nat) (x_7 : Int32) (hp_8 : zHp) (nx_9 : Nat) (H : Heap) (locs : List Loc) (ls : Array Slot), I_25 n_10 x_7 hp_8 nx_9 → lv_has ls 3 [(0, va_rf (some h0)), (1, .int x1), (2, .int x_7)] → zHd g hp_8 H → H.size = nx_9 → va_S (zAd g) s.heap H locs → W p l e (zrm (d + 1) 0 0) s m ([.ref h0, .int x1] : List Value).toArray below meth c H locs 0 0 (MQ below (zQv g Post) ([.ref h0, .int x1] : List Value).toArray s 0 0 (zAd g)) (F0 m 25 ls []) := by
        intro n_10
        induction n_10 using Nat.strongRecOn with
        | _ n_10 ih_25 =>
          intro x_7 hp_8 nx_9 H locs ls hw hl hH hz hS
          have hw := hB_25 n_10 x_7 hp_8 nx_9 hw
          refine lv_iload_n hx hb dX5_parts_25 rfl (lv_at hl 2 rfl) ?_
          refine lv_iload_n hx hb dX5_parts_26 rfl (lv_at hl 1 rfl) ?_
          refine lv_icmp_ge (tgt := 50) hx hb dX5_parts_27 (by decide) (fun hc => ?_) (fun hc => ?_)
          · have hw := hw.1 hc
            refine zr_aload_n (r := some h0) hx hb dX5_parts_50 rfl (lv_at hl 0 rfl) ?_
            refine lv_bipush (v := (41 : Int32)) hx hb dX5_parts_51 (by decide) ?_
            obtain ⟨a_31, ci_32, fs_33, er, he, hc, hw⟩ := zo_e hw
            obtain rfl := List.mem_singleton.mp hc
            refine zr_calli (zw_runV (As := [.int (41 : Int32)]) hk hH hz hS hl.1 er hw (cwV 1 hts (lw_V q3147 q3149 qs107 q162 q3150) rfl rfl rfl (by decide +kernel) (z_room (Nat.le_of_ble_eq_true rfl))) he rfl rfl rfl (Nat.le_of_ble_eq_true rfl) dX5_parts_53 ⟨Nat.le_of_ble_eq_true rfl, Nat.le_of_ble_eq_true rfl⟩) hS (fun x_13 hp_11 nx_12 hw H locs hH hz hS => ?_)
            refine lv_if_ne (tgt := 65) hx hb dX5_parts_56 (by decide) (fun hc => ?_) (fun hc => ?_)
            · have hw := hw.2 hc
              refine zr_aload_n (r := some h0) hx hb dX5_parts_65 rfl (lv_at hl 0 rfl) ?_
              refine lv_dup hx hb dX5_parts_66 (z_cat _) ?_
              obtain ⟨a_14, ci_15, fs_16, x_17, er, he, hc, hv, hw⟩ := zgI_e hw
              refine zw_get hk hH er he hv (fk_X5_438 hc) dX5_parts_67 ?_
              refine lv_iconst (v := (1 : Int32)) hx hb dX5_parts_70 (by decide) ?_
              refine lv_isub hx hb dX5_parts_71 ?_
              obtain ⟨a_18, ci_19, fs_20, hp_21, er, he, hc, hA, hkl, eh, hw⟩ := zpt_e hw
              refine zw_put hk hH hz hS er he hA hkl eh (fp_X5_438 hc) rfl rfl dX5_parts_72 (fun H locs hH hz hS => ?_)
              refine zr_aload_n (r := some h0) hx hb dX5_parts_75 rfl (lv_at hl 0 rfl) ?_
              obtain ⟨a_24, ci_25, fs_26, er, he, hc, hw⟩ := zo_e hw
              obtain rfl := List.mem_singleton.mp hc
              refine zr_callv (zw_runV (As := []) hk hH hz hS hl.1 er hw (cwV 0 hts (lw_V q3082 q3084 qs94 q162 q3085) rfl rfl rfl (by decide +kernel) (z_room (Nat.le_of_ble_eq_true rfl))) he rfl rfl rfl (Nat.le_of_ble_eq_true rfl) dX5_parts_76 ⟨Nat.le_of_ble_eq_true rfl, Nat.le_of_ble_eq_true rfl⟩) hS (fun hp_22 nx_23 hw H locs hH hz hS => ?_)
              exact zr_vret hk hr hH hz hS hw (Nat.le_of_ble_eq_true rfl) (Nat.le_of_ble_eq_true rfl) dX5_parts_79
            · have hw := hw.1 hc
              refine zr_aload_n (r := some h0) hx hb dX5_parts_59 rfl (lv_at hl 0 rfl) ?_
              refine lv_iconst (v := (1 : Int32)) hx hb dX5_parts_60 (by decide) ?_
              obtain ⟨a_27, ci_28, fs_29, hp_30, er, he, hc, hA, hkl, eh, hw⟩ := zpt_e hw
              refine zw_put hk hH hz hS er he hA hkl eh (fp_X5_357 hc) (z_nb (Or.inr rfl)) (z_fb (Or.inr rfl)) dX5_parts_61 (fun H locs hH hz hS => ?_)
              exact zr_vret hk hr hH hz hS hw (Nat.le_of_ble_eq_true rfl) (Nat.le_of_ble_eq_true rfl) dX5_parts_64
          · have hw := hw.2 hc
            refine lv_iload_n hx hb dX5_parts_30 rfl (lv_at hl 2 rfl) ?_
            obtain ⟨P_40, hP_40, hw⟩ := hw
            have hJ_40 : ∀ (x_34 : Int32) (hp_35 : zHp) (nx_36 : Nat) (H : Heap) (locs : List Loc) (ls : Array Slot), P_40 x_34 hp_35 nx_36 → lv_has ls 3 [(0, va_rf (some h0)), (1, .int x1), (2, .int x_34)] → zHd g hp_35 H → H.size = nx_36 → va_S (zAd g) s.heap H locs → W p l e (zrm (d + 1) 0 0) s m ([.ref h0, .int x1] : List Value).toArray below meth c H locs 0 0 (MQ below (zQv g Post) ([.ref h0, .int x1] : List Value).toArray s 0 0 (zAd g)) (F0 m 40 ls []) := by
              intro x_34 hp_35 nx_36 H locs ls hw hl hH hz hS
              have hw := hP_40 x_34 hp_35 nx_36 hw
              refine zr_aload_n (r := some h0) hx hb dX5_parts_40 rfl (lv_at hl 0 rfl) ?_
              obtain ⟨a_41, ci_42, fs_43, er, he, hc, hw⟩ := zo_e hw
              obtain rfl := List.mem_singleton.mp hc
              refine zr_callv (zw_runV (As := []) hk hH hz hS hl.1 er hw (cwV 0 hts (lw_V q3119 q3121 qs100 q162 q3122) rfl rfl rfl (by decide +kernel) (z_room (Nat.le_of_ble_eq_true rfl))) he rfl rfl rfl (Nat.le_of_ble_eq_true rfl) dX5_parts_41 ⟨Nat.le_of_ble_eq_true rfl, Nat.le_of_ble_eq_true rfl⟩) hS (fun hp_37 nx_38 hw H locs hH hz hS => ?_)
              obtain ⟨x_39, ex_39⟩ : ∃ y : Int32, y = x_34 + (1 : Int32) := ⟨_, rfl⟩
              have hw := hw x_39 ex_39
              refine lv_iinc (v := x_39) (lv' := [(2, .int x_39), (0, va_rf (some h0)), (1, .int x1)]) hx hb dX5_parts_44 hl (k := 2) rfl (by rw [ex_39]; rfl) (by decide) (by first | rfl | simp [List.filter_cons, z_cat, z_catI, z_catJ, z_catF, z_catD]) (fun ls hl => ?_)
              refine lv_goto (tgt := 25) hx hb dX5_parts_47 (by decide) ?_
              obtain ⟨k_40, hlt, hw⟩ := hw
              exact ih_25 k_40 hlt x_39 hp_37 nx_38 _ _ _ hw (lv_sub hl [1, 2, 0] rfl) hH hz hS
            refine lv_if_le (tgt := 40) hx hb dX5_parts_31 (by decide) (fun hc => ?_) (fun hc => ?_)
            · have hw := hw.1 hc
              exact hJ_40 x_7 hp_8 nx_9 _ _ _ hw hl hH hz hS
            · have hw := hw.2 hc
              refine zr_aload_n (r := some h0) hx hb dX5_parts_34 rfl (lv_at hl 0 rfl) ?_
              refine lv_bipush (v := (44 : Int32)) hx hb dX5_parts_35 (by decide) ?_
              obtain ⟨a_46, ci_47, fs_48, er, he, hc, hw⟩ := zo_e hw
              obtain rfl := List.mem_singleton.mp hc
              refine zr_callv (zw_runV (As := [.int (44 : Int32)]) hk hH hz hS hl.1 er hw (cwV 1 hts (lw_V q3155 q3157 qs109 q162 q3158) rfl rfl rfl (by decide +kernel) (z_room (Nat.le_of_ble_eq_true rfl))) he rfl rfl rfl (Nat.le_of_ble_eq_true rfl) dX5_parts_37 ⟨Nat.le_of_ble_eq_true rfl, Nat.le_of_ble_eq_true rfl⟩) hS (fun hp_44 nx_45 hw H locs hH hz hS => ?_)
              exact hJ_40 x_7 hp_44 nx_45 _ _ _ hw hl hH hz hS
      exact hL_25 n_49 (0 : Int32) hp_4 nx_5 _ _ _ hI (lv_sub hl [1, 2, 0] rfl) hH hz hS
    · have hw := hw.1 hc
      exact zr_vret hk hr hH hz hS hw (Nat.le_of_ble_eq_true rfl) (Nat.le_of_ble_eq_true rfl) dX5_parts_22
  · have hw := hw.1 hc
    refine zr_aload_n (r := some h0) hx hb dX5_parts_9 rfl (lv_at hl 0 rfl) ?_
    refine lv_iconst (v := (1 : Int32)) hx hb dX5_parts_10 (by decide) ?_
    obtain ⟨a_53, ci_54, fs_55, hp_56, er, he, hc, hA, hkl, eh, hw⟩ := zpt_e hw
    refine zw_put hk hH hz hS er he hA hkl eh (fp_X5_357 hc) (z_nb (Or.inr rfl)) (z_fb (Or.inr rfl)) dX5_parts_11 (fun H locs hH hz hS => ?_)
    exact zr_vret hk hr hH hz hS hw (Nat.le_of_ble_eq_true rfl) (Nat.le_of_ble_eq_true rfl) dX5_parts_14
def wp_X5_isSign (l : Launch) (g : zG) (d : Nat) (h0 : Nat) (x1 : Int32) (hp : zHp) (nx : Nat) (Post : Int32 → zHp → Nat → Prop) : Prop :=
  (zgI hp (some h0) [5] 46 fun x_4 =>
  (∃ P_28 : Int32 → Prop, (∀ (x_5 : Int32), P_28 x_5 →
  (((x_5 = 0 ∨ x_5 = 1) ∧ Post x_5 hp nx))) ∧
  (∃ P_27 : Prop, (P_27 →
  P_28 (0 : Int32)) ∧
  ((x_4 = 0 →
  (zgI hp (some h0) [5] 41 fun x_9 =>
  ((x_9 = (3 : Int32) →
  (zgI hp (some h0) [5] 42 fun x_13 =>
  ((x_13 = x1 →
  P_28 (1 : Int32)) ∧
  (¬ x_13 = x1 →
  P_27)))) ∧
  (¬ x_9 = (3 : Int32) →
  P_27)))) ∧
  (¬ x_4 = 0 →
  P_27)))))
set_option maxHeartbeats 40000000 in
theorem met_X5_isSign {l : Launch} {g : zG} {d : Nat} {h0 : Nat} {x1 : Int32} {hp : zHp} {nx : Nat} {Post : Int32 → zHp → Nat → Prop} (hw : wp_X5_isSign l g d h0 x1 hp nx Post) : zMt l g yX5_isSign cX5_isSign 2 (some .boolean) (d + 1) 0 0 [.ref h0, .int x1] hp nx (zQi g Post) := by
  refine z_start (by decide) (Nat.le_of_ble_eq_true rfl) ?_
  intro p e s m below meth c hk hr hin hH hz ls hl
  have hx := hk.1.1
  have hb := hk.1.2.1
  have hown := hk.1.2.2.2.1
  have hts := hk.1.2.2.2.2
  have hS : va_S (zAd g) s.heap s.heap [] := va_S.rf
  have hl : lv_has ls 2 [(0, va_rf (some h0)), (1, .int x1)] := hl
  unfold wp_X5_isSign at hw
  refine zr_aload_n (r := some h0) hx hb dX5_isSign_0 rfl (lv_at hl 0 rfl) ?_
  obtain ⟨a_1, ci_2, fs_3, x_4, er, he, hc, hv, hw⟩ := zgI_e hw
  refine zw_get hk hH er he hv (fk_X5_357 hc) dX5_isSign_1 ?_
  obtain ⟨P_28, hP_28, hw⟩ := hw
  have hJ_28 : ∀ (x_5 : Int32) (H : Heap) (locs : List Loc) (ls : Array Slot), P_28 x_5 → lv_has ls 2 [(0, va_rf (some h0)), (1, .int x1)] → zHd g hp H → H.size = nx → va_S (zAd g) s.heap H locs → W p l e (zrm (d + 1) 0 0) s m ([.ref h0, .int x1] : List Value).toArray below meth c H locs 0 0 (MQ below (zQi g Post) ([.ref h0, .int x1] : List Value).toArray s 0 0 (zAd g)) (F0 m 28 ls [.int x_5]) := by
    intro x_5 H locs ls hw hl hH hz hS
    have hw := hP_28 x_5 hw
    exact zr_zret hk hr hH hz hS hw.1 hw.2 (Nat.le_of_ble_eq_true rfl) (Nat.le_of_ble_eq_true rfl) dX5_isSign_28
  obtain ⟨P_27, hP_27, hw⟩ := hw
  have hJ_27 : ∀  (H : Heap) (locs : List Loc) (ls : Array Slot), P_27  → lv_has ls 2 [(0, va_rf (some h0)), (1, .int x1)] → zHd g hp H → H.size = nx → va_S (zAd g) s.heap H locs → W p l e (zrm (d + 1) 0 0) s m ([.ref h0, .int x1] : List Value).toArray below meth c H locs 0 0 (MQ below (zQi g Post) ([.ref h0, .int x1] : List Value).toArray s 0 0 (zAd g)) (F0 m 27 ls []) := by
    intro  H locs ls hw hl hH hz hS
    have hw := hP_27  hw
    refine lv_iconst (v := (0 : Int32)) hx hb dX5_isSign_27 (by decide) ?_
    exact hJ_28 (0 : Int32) _ _ _ hw hl hH hz hS
  refine lv_if_ne (tgt := 27) hx hb dX5_isSign_4 (by decide) (fun hc => ?_) (fun hc => ?_)
  · have hw := hw.2 hc
    exact hJ_27  _ _ _ hw hl hH hz hS
  · have hw := hw.1 hc
    refine zr_aload_n (r := some h0) hx hb dX5_isSign_7 rfl (lv_at hl 0 rfl) ?_
    obtain ⟨a_6, ci_7, fs_8, x_9, er, he, hc, hv, hw⟩ := zgI_e hw
    refine zw_get hk hH er he hv (fk_X5_364 hc) dX5_isSign_8 ?_
    refine lv_iconst (v := (3 : Int32)) hx hb dX5_isSign_11 (by decide) ?_
    refine lv_icmp_ne (tgt := 27) hx hb dX5_isSign_12 (by decide) (fun hc => ?_) (fun hc => ?_)
    · have hw := hw.2 hc
      exact hJ_27  _ _ _ hw hl hH hz hS
    · have hw := hw.1 hc
      refine zr_aload_n (r := some h0) hx hb dX5_isSign_15 rfl (lv_at hl 0 rfl) ?_
      obtain ⟨a_10, ci_11, fs_12, x_13, er, he, hc, hv, hw⟩ := zgI_e hw
      refine zw_get hk hH er he hv (fk_X5_378 hc) dX5_isSign_16 ?_
      refine lv_iload_n hx hb dX5_isSign_19 rfl (lv_at hl 1 rfl) ?_
      refine lv_icmp_ne (tgt := 27) hx hb dX5_isSign_20 (by decide) (fun hc => ?_) (fun hc => ?_)
      · have hw := hw.2 hc
        exact hJ_27  _ _ _ hw hl hH hz hS
      · have hw := hw.1 hc
        refine lv_iconst (v := (1 : Int32)) hx hb dX5_isSign_23 (by decide) ?_
        refine lv_goto (tgt := 28) hx hb dX5_isSign_24 (by decide) ?_
        exact hJ_28 (1 : Int32) _ _ _ hw hl hH hz hS
def wp_X5_opens (l : Launch) (g : zG) (d : Nat) (h0 : Nat) (hp : zHp) (nx : Nat) (Post : Int32 → zHp → Nat → Prop) : Prop :=
  (zgI hp (some h0) [5] 45 fun x_4 =>
  (∃ P_13 : zHp → Nat → Prop, (∀ (hp_5 : zHp) (nx_6 : Nat), P_13 hp_5 nx_6 →
  (zgI hp_5 (some h0) [5] 46 fun x_10 =>
  ((x_10 = 0 →
  (zgI hp_5 (some h0) [5] 45 fun x_14 =>
  (zpt g hp_5 (some h0) [5] 45 (.int (x_14 + (1 : Int32))) fun hp_18 =>
  (zo hp_18 (some h0) [5] fun a_21 ci_22 fs_23 => zMt l g yX5_next cX5_next 1 none d 0 0 (.ref a_21 :: []) hp_18 nx_6 (zQv g fun hp_19 nx_20 =>
  (Post (1 : Int32) hp_19 nx_20)))))) ∧
  (¬ x_10 = 0 →
  (Post (0 : Int32) hp_5 nx_6))))) ∧
  ((x_4 = (4 : Int32) →
  (zpt g hp (some h0) [5] 46 (.int (1 : Int32)) fun hp_27 =>
  P_13 hp_27 nx)) ∧
  (¬ x_4 = (4 : Int32) →
  P_13 hp nx))))
set_option maxHeartbeats 40000000 in
theorem met_X5_opens {l : Launch} {g : zG} {d : Nat} {h0 : Nat} {hp : zHp} {nx : Nat} {Post : Int32 → zHp → Nat → Prop} (hw : wp_X5_opens l g d h0 hp nx Post) : zMt l g yX5_opens cX5_opens 1 (some .boolean) (d + 1) 0 0 [.ref h0] hp nx (zQi g Post) := by
  refine z_start (by decide) (Nat.le_of_ble_eq_true rfl) ?_
  intro p e s m below meth c hk hr hin hH hz ls hl
  have hx := hk.1.1
  have hb := hk.1.2.1
  have hown := hk.1.2.2.2.1
  have hts := hk.1.2.2.2.2
  have hS : va_S (zAd g) s.heap s.heap [] := va_S.rf
  have hl : lv_has ls 1 [(0, va_rf (some h0))] := hl
  unfold wp_X5_opens at hw
  refine zr_aload_n (r := some h0) hx hb dX5_opens_0 rfl (lv_at hl 0 rfl) ?_
  obtain ⟨a_1, ci_2, fs_3, x_4, er, he, hc, hv, hw⟩ := zgI_e hw
  refine zw_get hk hH er he hv (fk_X5_438 hc) dX5_opens_1 ?_
  refine lv_iconst (v := (4 : Int32)) hx hb dX5_opens_4 (by decide) ?_
  obtain ⟨P_13, hP_13, hw⟩ := hw
  have hJ_13 : ∀ (hp_5 : zHp) (nx_6 : Nat) (H : Heap) (locs : List Loc) (ls : Array Slot), P_13 hp_5 nx_6 → lv_has ls 1 [(0, va_rf (some h0))] → zHd g hp_5 H → H.size = nx_6 → va_S (zAd g) s.heap H locs → W p l e (zrm (d + 1) 0 0) s m ([.ref h0] : List Value).toArray below meth c H locs 0 0 (MQ below (zQi g Post) ([.ref h0] : List Value).toArray s 0 0 (zAd g)) (F0 m 13 ls []) := by
    intro hp_5 nx_6 H locs ls hw hl hH hz hS
    have hw := hP_13 hp_5 nx_6 hw
    refine zr_aload_n (r := some h0) hx hb dX5_opens_13 rfl (lv_at hl 0 rfl) ?_
    obtain ⟨a_7, ci_8, fs_9, x_10, er, he, hc, hv, hw⟩ := zgI_e hw
    refine zw_get hk hH er he hv (fk_X5_357 hc) dX5_opens_14 ?_
    refine lv_if_eq (tgt := 22) hx hb dX5_opens_17 (by decide) (fun hc => ?_) (fun hc => ?_)
    · have hw := hw.1 hc
      refine zr_aload_n (r := some h0) hx hb dX5_opens_22 rfl (lv_at hl 0 rfl) ?_
      refine lv_dup hx hb dX5_opens_23 (z_cat _) ?_
      obtain ⟨a_11, ci_12, fs_13, x_14, er, he, hc, hv, hw⟩ := zgI_e hw
      refine zw_get hk hH er he hv (fk_X5_438 hc) dX5_opens_24 ?_
      refine lv_iconst (v := (1 : Int32)) hx hb dX5_opens_27 (by decide) ?_
      refine lv_iadd hx hb dX5_opens_28 ?_
      obtain ⟨a_15, ci_16, fs_17, hp_18, er, he, hc, hA, hkl, eh, hw⟩ := zpt_e hw
      refine zw_put hk hH hz hS er he hA hkl eh (fp_X5_438 hc) rfl rfl dX5_opens_29 (fun H locs hH hz hS => ?_)
      refine zr_aload_n (r := some h0) hx hb dX5_opens_32 rfl (lv_at hl 0 rfl) ?_
      obtain ⟨a_21, ci_22, fs_23, er, he, hc, hw⟩ := zo_e hw
      obtain rfl := List.mem_singleton.mp hc
      refine zr_callv (zw_runV (As := []) hk hH hz hS hl.1 er hw (cwV 0 hts (lw_V q3082 q3084 qs94 q162 q3085) rfl rfl rfl (by decide +kernel) (z_room (Nat.le_of_ble_eq_true rfl))) he rfl rfl rfl (Nat.le_of_ble_eq_true rfl) dX5_opens_33 ⟨Nat.le_of_ble_eq_true rfl, Nat.le_of_ble_eq_true rfl⟩) hS (fun hp_19 nx_20 hw H locs hH hz hS => ?_)
      refine lv_iconst (v := (1 : Int32)) hx hb dX5_opens_36 (by decide) ?_
      exact zr_zret hk hr hH hz hS (Or.inr rfl) hw (Nat.le_of_ble_eq_true rfl) (Nat.le_of_ble_eq_true rfl) dX5_opens_37
    · have hw := hw.2 hc
      refine lv_iconst (v := (0 : Int32)) hx hb dX5_opens_20 (by decide) ?_
      exact zr_zret hk hr hH hz hS (Or.inl rfl) hw (Nat.le_of_ble_eq_true rfl) (Nat.le_of_ble_eq_true rfl) dX5_opens_21
  refine lv_icmp_ne (tgt := 13) hx hb dX5_opens_5 (by decide) (fun hc => ?_) (fun hc => ?_)
  · have hw := hw.2 hc
    exact hJ_13 hp nx _ _ _ hw hl hH hz hS
  · have hw := hw.1 hc
    refine zr_aload_n (r := some h0) hx hb dX5_opens_8 rfl (lv_at hl 0 rfl) ?_
    refine lv_iconst (v := (1 : Int32)) hx hb dX5_opens_9 (by decide) ?_
    obtain ⟨a_24, ci_25, fs_26, hp_27, er, he, hc, hA, hkl, eh, hw⟩ := zpt_e hw
    refine zw_put hk hH hz hS er he hA hkl eh (fp_X5_357 hc) (z_nb (Or.inr rfl)) (z_fb (Or.inr rfl)) dX5_opens_10 (fun H locs hH hz hS => ?_)
    exact hJ_13 hp_27 nx _ _ _ hw hl hH hz hS
def wp_X5_need (l : Launch) (g : zG) (d : Nat) (h0 : Nat) (x1 : Int32) (hp : zHp) (nx : Nat) (Post : zHp → Nat → Prop) : Prop :=
  (zo hp (some h0) [5] fun a_15 ci_16 fs_17 => zMt l g yX5_isSign cX5_isSign 2 (some .boolean) d 0 0 (.ref a_15 :: [.int x1]) hp nx (zQi g fun x_3 hp_1 nx_2 =>
  (∃ P_20 : zHp → Nat → Prop, (∀ (hp_4 : zHp) (nx_5 : Nat), P_20 hp_4 nx_5 →
  (Post hp_4 nx_5)) ∧
  ((x_3 = 0 →
  (zpt g hp_1 (some h0) [5] 46 (.int (1 : Int32)) fun hp_9 =>
  P_20 hp_9 nx_2)) ∧
  (¬ x_3 = 0 →
  (zo hp_1 (some h0) [5] fun a_12 ci_13 fs_14 => zMt l g yX5_next cX5_next 1 none d 0 0 (.ref a_12 :: []) hp_1 nx_2 (zQv g fun hp_10 nx_11 =>
  P_20 hp_10 nx_11)))))))
set_option maxHeartbeats 40000000 in
theorem met_X5_need {l : Launch} {g : zG} {d : Nat} {h0 : Nat} {x1 : Int32} {hp : zHp} {nx : Nat} {Post : zHp → Nat → Prop} (hw : wp_X5_need l g d h0 x1 hp nx Post) : zMt l g yX5_need cX5_need 2 none (d + 1) 0 0 [.ref h0, .int x1] hp nx (zQv g Post) := by
  refine z_start (by decide) (Nat.le_of_ble_eq_true rfl) ?_
  intro p e s m below meth c hk hr hin hH hz ls hl
  have hx := hk.1.1
  have hb := hk.1.2.1
  have hown := hk.1.2.2.2.1
  have hts := hk.1.2.2.2.2
  have hS : va_S (zAd g) s.heap s.heap [] := va_S.rf
  have hl : lv_has ls 2 [(0, va_rf (some h0)), (1, .int x1)] := hl
  unfold wp_X5_need at hw
  refine zr_aload_n (r := some h0) hx hb dX5_need_0 rfl (lv_at hl 0 rfl) ?_
  refine lv_iload_n hx hb dX5_need_1 rfl (lv_at hl 1 rfl) ?_
  obtain ⟨a_15, ci_16, fs_17, er, he, hc, hw⟩ := zo_e hw
  obtain rfl := List.mem_singleton.mp hc
  refine zr_calli (zw_runV (As := [.int x1]) hk hH hz hS hl.1 er hw (cwV 1 hts (lw_V q3147 q3149 qs107 q162 q3150) rfl rfl rfl (by decide +kernel) (z_room (Nat.le_of_ble_eq_true rfl))) he rfl rfl rfl (Nat.le_of_ble_eq_true rfl) dX5_need_2 ⟨Nat.le_of_ble_eq_true rfl, Nat.le_of_ble_eq_true rfl⟩) hS (fun x_3 hp_1 nx_2 hw H locs hH hz hS => ?_)
  obtain ⟨P_20, hP_20, hw⟩ := hw
  have hJ_20 : ∀ (hp_4 : zHp) (nx_5 : Nat) (H : Heap) (locs : List Loc) (ls : Array Slot), P_20 hp_4 nx_5 → lv_has ls 2 [(0, va_rf (some h0)), (1, .int x1)] → zHd g hp_4 H → H.size = nx_5 → va_S (zAd g) s.heap H locs → W p l e (zrm (d + 1) 0 0) s m ([.ref h0, .int x1] : List Value).toArray below meth c H locs 0 0 (MQ below (zQv g Post) ([.ref h0, .int x1] : List Value).toArray s 0 0 (zAd g)) (F0 m 20 ls []) := by
    intro hp_4 nx_5 H locs ls hw hl hH hz hS
    have hw := hP_20 hp_4 nx_5 hw
    exact zr_vret hk hr hH hz hS hw (Nat.le_of_ble_eq_true rfl) (Nat.le_of_ble_eq_true rfl) dX5_need_20
  refine lv_if_eq (tgt := 15) hx hb dX5_need_5 (by decide) (fun hc => ?_) (fun hc => ?_)
  · have hw := hw.1 hc
    refine zr_aload_n (r := some h0) hx hb dX5_need_15 rfl (lv_at hl 0 rfl) ?_
    refine lv_iconst (v := (1 : Int32)) hx hb dX5_need_16 (by decide) ?_
    obtain ⟨a_6, ci_7, fs_8, hp_9, er, he, hc, hA, hkl, eh, hw⟩ := zpt_e hw
    refine zw_put hk hH hz hS er he hA hkl eh (fp_X5_357 hc) (z_nb (Or.inr rfl)) (z_fb (Or.inr rfl)) dX5_need_17 (fun H locs hH hz hS => ?_)
    exact hJ_20 hp_9 nx_2 _ _ _ hw hl hH hz hS
  · have hw := hw.2 hc
    refine zr_aload_n (r := some h0) hx hb dX5_need_8 rfl (lv_at hl 0 rfl) ?_
    obtain ⟨a_12, ci_13, fs_14, er, he, hc, hw⟩ := zo_e hw
    obtain rfl := List.mem_singleton.mp hc
    refine zr_callv (zw_runV (As := []) hk hH hz hS hl.1 er hw (cwV 0 hts (lw_V q3082 q3084 qs94 q162 q3085) rfl rfl rfl (by decide +kernel) (z_room (Nat.le_of_ble_eq_true rfl))) he rfl rfl rfl (Nat.le_of_ble_eq_true rfl) dX5_need_9 ⟨Nat.le_of_ble_eq_true rfl, Nat.le_of_ble_eq_true rfl⟩) hS (fun hp_10 nx_11 hw H locs hH hz hS => ?_)
    refine lv_goto (tgt := 20) hx hb dX5_need_12 (by decide) ?_
    exact hJ_20 hp_10 nx_11 _ _ _ hw hl hH hz hS
def wp_X5_isVaried (l : Launch) (g : zG) (d : Nat) (h0 : Nat) (x1 : Int32) (hp : zHp) (nx : Nat) (Post : Int32 → zHp → Nat → Prop) : Prop :=
  (∃ I_2 : Nat → Int32 → zHp → Nat → Prop, (∃ n_24, I_2 n_24 (0 : Int32) hp nx) ∧ ∀ (n_4 : Nat) (x_1 : Int32) (hp_2 : zHp) (nx_3 : Nat), I_2 n_4 x_1 hp_2 nx_3 →
  (((6 : Int32) ≤ x_1 →
  (Post (0 : Int32) hp_2 nx_3)) ∧
  (¬ (6 : Int32) ≤ x_1 →
  (zgR hp_2 (some h0) [5] 6 fun r_8 =>
  (zaI (g.2.1 3) hp_2 r_8 fun a_9 n_10 f_11 => vp_in x_1 n_10 ∧ ∀ x_12 : Int32, x_12 = f_11 x_1.toNatClampNeg →
  (∃ P_32 : Int32 → zHp → Nat → Prop, (∀ (x_13 : Int32) (hp_14 : zHp) (nx_15 : Nat), P_32 x_13 hp_14 nx_15 →
  (∀ x_16 : Int32, x_16 = x_13 + (1 : Int32) →
  (∃ k_17, k_17 < n_4 ∧ I_2 k_17 x_16 hp_14 nx_15))) ∧
  ((x_12 = 0 →
  P_32 x_1 hp_2 nx_3) ∧
  (¬ x_12 = 0 →
  (zo hp_2 (some h0) [5] fun a_21 ci_22 fs_23 => zMt l g yX5_varied cX5_varied 2 (some .int) d 0 0 (.ref a_21 :: [.int x_1]) hp_2 nx_3 (zQi g fun x_20 hp_18 nx_19 =>
  ((((x_20 >>> (x1 &&& 31)) &&& (1 : Int32)) = (1 : Int32) →
  (Post (1 : Int32) hp_18 nx_19)) ∧
  (¬ ((x_20 >>> (x1 &&& 31)) &&& (1 : Int32)) = (1 : Int32) →
  P_32 x_1 hp_18 nx_19))))))))))))
set_option maxHeartbeats 40000000 in
theorem met_X5_isVaried {l : Launch} {g : zG} {d : Nat} {h0 : Nat} {x1 : Int32} {hp : zHp} {nx : Nat} {Post : Int32 → zHp → Nat → Prop} (hw : wp_X5_isVaried l g d h0 x1 hp nx Post) : zMt l g yX5_isVaried cX5_isVaried 3 (some .boolean) (d + 1) 0 0 [.ref h0, .int x1] hp nx (zQi g Post) := by
  refine z_start (by decide) (Nat.le_of_ble_eq_true rfl) ?_
  intro p e s m below meth c hk hr hin hH hz ls hl
  have hx := hk.1.1
  have hb := hk.1.2.1
  have hown := hk.1.2.2.2.1
  have hts := hk.1.2.2.2.2
  have hS : va_S (zAd g) s.heap s.heap [] := va_S.rf
  have hl : lv_has ls 3 [(0, va_rf (some h0)), (1, .int x1)] := hl
  unfold wp_X5_isVaried at hw
  refine lv_iconst (v := (0 : Int32)) hx hb dX5_isVaried_0 (by decide) ?_
  refine lv_istore_n (i := 2) (lv' := [(2, .int (0 : Int32)), (0, va_rf (some h0)), (1, .int x1)]) hx hb dX5_isVaried_1 rfl hl (by decide) (by first | rfl | simp [List.filter_cons, z_cat, z_catI, z_catJ, z_catF, z_catD]) (fun ls hl => ?_)
  obtain ⟨I_2, ⟨n_24, hI⟩, hB_2⟩ := hw
  have hL_2 : ∀ (n_4 : Nat) (x_1 : Int32) (hp_2 : zHp) (nx_3 : Nat) (H : Heap) (locs : List Loc) (ls : Array Slot), I_2 n_4 x_1 hp_2 nx_3 → lv_has ls 3 [(0, va_rf (some h0)), (1, .int x1), (2, .int x_1)] → zHd g hp_2 H → H.size = nx_3 → va_S (zAd g) s.heap H locs → W p l e (zrm (d + 1) 0 0) s m ([.ref h0, .int x1] : List Value).toArray below meth c H locs 0 0 (MQ below (zQi g Post) ([.ref h0, .int x1] : List Value).toArray s 0 0 (zAd g)) (F0 m 2 ls []) := by
    intro n_4
    induction n_4 using Nat.strongRecOn with
    | _ n_4 ih_2 =>
      intro x_1 hp_2 nx_3 H locs ls hw hl hH hz hS
      have hw := hB_2 n_4 x_1 hp_2 nx_3 hw
      refine lv_iload_n hx hb dX5_isVaried_2 rfl (lv_at hl 2 rfl) ?_
      refine lv_bipush (v := (6 : Int32)) hx hb dX5_isVaried_3 (by decide) ?_
      refine lv_icmp_ge (tgt := 38) hx hb dX5_isVaried_5 (by decide) (fun hc => ?_) (fun hc => ?_)
      · have hw := hw.1 hc
        refine lv_iconst (v := (0 : Int32)) hx hb dX5_isVaried_38 (by decide) ?_
        exact zr_zret hk hr hH hz hS (Or.inl rfl) hw (Nat.le_of_ble_eq_true rfl) (Nat.le_of_ble_eq_true rfl) dX5_isVaried_39
      · have hw := hw.2 hc
        refine zr_aload_n (r := some h0) hx hb dX5_isVaried_8 rfl (lv_at hl 0 rfl) ?_
        obtain ⟨a_5, ci_6, fs_7, r_8, er, he, hc, hv, hw⟩ := zgR_e hw
        refine zw_get hk hH er he hv (fk_X5_34 hc) dX5_isVaried_9 ?_
        refine lv_iload_n hx hb dX5_isVaried_12 rfl (lv_at hl 2 rfl) ?_
        obtain ⟨a_9, n_10, f_11, er, he, hi, hw⟩ := zaI_e hw
        have hw := hw _ rfl
        refine zw_zald hk hH er he hi dX5_isVaried_13 ?_
        generalize f_11 x_1.toNatClampNeg = x_12 at hw ⊢
        obtain ⟨P_32, hP_32, hw⟩ := hw
        have hJ_32 : ∀ (x_13 : Int32) (hp_14 : zHp) (nx_15 : Nat) (H : Heap) (locs : List Loc) (ls : Array Slot), P_32 x_13 hp_14 nx_15 → lv_has ls 3 [(0, va_rf (some h0)), (1, .int x1), (2, .int x_13)] → zHd g hp_14 H → H.size = nx_15 → va_S (zAd g) s.heap H locs → W p l e (zrm (d + 1) 0 0) s m ([.ref h0, .int x1] : List Value).toArray below meth c H locs 0 0 (MQ below (zQi g Post) ([.ref h0, .int x1] : List Value).toArray s 0 0 (zAd g)) (F0 m 32 ls []) := by
          intro x_13 hp_14 nx_15 H locs ls hw hl hH hz hS
          have hw := hP_32 x_13 hp_14 nx_15 hw
          obtain ⟨x_16, ex_16⟩ : ∃ y : Int32, y = x_13 + (1 : Int32) := ⟨_, rfl⟩
          have hw := hw x_16 ex_16
          refine lv_iinc (v := x_16) (lv' := [(2, .int x_16), (0, va_rf (some h0)), (1, .int x1)]) hx hb dX5_isVaried_32 hl (k := 2) rfl (by rw [ex_16]; rfl) (by decide) (by first | rfl | simp [List.filter_cons, z_cat, z_catI, z_catJ, z_catF, z_catD]) (fun ls hl => ?_)
          refine lv_goto (tgt := 2) hx hb dX5_isVaried_35 (by decide) ?_
          obtain ⟨k_17, hlt, hw⟩ := hw
          exact ih_2 k_17 hlt x_16 hp_14 nx_15 _ _ _ hw (lv_sub hl [1, 2, 0] rfl) hH hz hS
        refine lv_if_eq (tgt := 32) hx hb dX5_isVaried_14 (by decide) (fun hc => ?_) (fun hc => ?_)
        · have hw := hw.1 hc
          exact hJ_32 x_1 hp_2 nx_3 _ _ _ hw hl hH hz hS
        · have hw := hw.2 hc
          refine zr_aload_n (r := some h0) hx hb dX5_isVaried_17 rfl (lv_at hl 0 rfl) ?_
          refine lv_iload_n hx hb dX5_isVaried_18 rfl (lv_at hl 2 rfl) ?_
          obtain ⟨a_21, ci_22, fs_23, er, he, hc, hw⟩ := zo_e hw
          obtain rfl := List.mem_singleton.mp hc
          refine zr_calli (zw_runV (As := [.int x_1]) hk hH hz hS hl.1 er hw (cwV 1 hts (lw_V q2965 q2967 qs75 q162 q2968) rfl rfl rfl (by decide +kernel) (z_room (Nat.le_of_ble_eq_true rfl))) he rfl rfl rfl (Nat.le_of_ble_eq_true rfl) dX5_isVaried_19 ⟨Nat.le_of_ble_eq_true rfl, Nat.le_of_ble_eq_true rfl⟩) hS (fun x_20 hp_18 nx_19 hw H locs hH hz hS => ?_)
          refine lv_iload_n hx hb dX5_isVaried_22 rfl (lv_at hl 1 rfl) ?_
          refine lv_ishr hx hb dX5_isVaried_23 ?_
          refine lv_iconst (v := (1 : Int32)) hx hb dX5_isVaried_24 (by decide) ?_
          refine lv_iand hx hb dX5_isVaried_25 ?_
          refine lv_iconst (v := (1 : Int32)) hx hb dX5_isVaried_26 (by decide) ?_
          refine lv_icmp_ne (tgt := 32) hx hb dX5_isVaried_27 (by decide) (fun hc => ?_) (fun hc => ?_)
          · have hw := hw.2 hc
            exact hJ_32 x_1 hp_18 nx_19 _ _ _ hw hl hH hz hS
          · have hw := hw.1 hc
            refine lv_iconst (v := (1 : Int32)) hx hb dX5_isVaried_30 (by decide) ?_
            exact zr_zret hk hr hH hz hS (Or.inr rfl) hw (Nat.le_of_ble_eq_true rfl) (Nat.le_of_ble_eq_true rfl) dX5_isVaried_31
  exact hL_2 n_24 (0 : Int32) hp nx _ _ _ hI (lv_sub hl [1, 2, 0] rfl) hH hz hS
def wp_X5_newNames (l : Launch) (g : zG) (d : Nat) (h0 : Nat) (hp : zHp) (nx : Nat) (Post : Int32 → zHp → Nat → Prop) : Prop :=
  (∃ I_4 : Nat → Int32 → Int32 → Prop, (∃ n_48, I_4 n_48 (0 : Int32) (0 : Int32)) ∧ ∀ (n_3 : Nat) (x_1 : Int32) (x_2 : Int32), I_4 n_3 x_1 x_2 →
  (zgI hp (some h0) [5] 37 fun x_7 =>
  ((x_7 ≤ x_2 →
  (Post x_1 hp nx)) ∧
  (¬ x_7 ≤ x_2 →
  (zgR hp (some h0) [5] 35 fun r_11 =>
  (zaI (g.2.1 0) hp r_11 fun a_12 n_13 f_14 => vp_in x_2 n_13 ∧ ∀ x_15 : Int32, x_15 = f_14 x_2.toNatClampNeg →
  (∃ P_34 : Int32 → Int32 → Prop, (∀ (x_16 : Int32) (x_17 : Int32), P_34 x_16 x_17 →
  (zgR hp (some h0) [5] 35 fun r_21 =>
  (zaI (g.2.1 0) hp r_21 fun a_22 n_23 f_24 => vp_in x_17 n_23 ∧ ∀ x_25 : Int32, x_25 = f_24 x_17.toNatClampNeg →
  (∃ P_63 : Int32 → Int32 → Prop, (∀ (x_26 : Int32) (x_27 : Int32), P_63 x_26 x_27 →
  (∀ x_28 : Int32, x_28 = x_27 + (1 : Int32) →
  (∃ k_29, k_29 < n_3 ∧ I_4 k_29 x_26 x_28))) ∧
  ((x_25 < (300 : Int32) →
  P_63 x_16 x_17) ∧
  (¬ x_25 < (300 : Int32) →
  (zgR hp (some h0) [5] 35 fun r_33 =>
  (zaI (g.2.1 0) hp r_33 fun a_34 n_35 f_36 => vp_in x_17 n_35 ∧ ∀ x_37 : Int32, x_37 = f_36 x_17.toNatClampNeg →
  (¬ (10 : Int32) = 0 ∧ (∀ x_38 : Int32, x_38 = x_16 ||| ((1 : Int32) <<< (((24 : Int32) + (x_37 - x_37 / (10 : Int32) * (10 : Int32))) &&& 31)) →
  P_63 x_38 x_17)))))))))) ∧
  (((24 : Int32) ≤ x_15 →
  P_34 x_1 x_2) ∧
  (¬ (24 : Int32) ≤ x_15 →
  (zgR hp (some h0) [5] 35 fun r_42 =>
  (zaI (g.2.1 0) hp r_42 fun a_43 n_44 f_45 => vp_in x_2 n_44 ∧ ∀ x_46 : Int32, x_46 = f_45 x_2.toNatClampNeg →
  (∀ x_47 : Int32, x_47 = x_1 ||| ((1 : Int32) <<< (x_46 &&& 31)) →
  P_34 x_47 x_2))))))))))))
set_option maxHeartbeats 40000000 in
theorem met_X5_newNames {l : Launch} {g : zG} {d : Nat} {h0 : Nat} {hp : zHp} {nx : Nat} {Post : Int32 → zHp → Nat → Prop} (hw : wp_X5_newNames l g d h0 hp nx Post) : zMt l g yX5_newNames cX5_newNames 3 (some .int) (d + 1) 0 0 [.ref h0] hp nx (zQi g Post) := by
  refine z_start (by decide) (Nat.le_of_ble_eq_true rfl) ?_
  intro p e s m below meth c hk hr hin hH hz ls hl
  have hx := hk.1.1
  have hb := hk.1.2.1
  have hown := hk.1.2.2.2.1
  have hts := hk.1.2.2.2.2
  have hS : va_S (zAd g) s.heap s.heap [] := va_S.rf
  have hl : lv_has ls 3 [(0, va_rf (some h0))] := hl
  unfold wp_X5_newNames at hw
  refine lv_iconst (v := (0 : Int32)) hx hb dX5_newNames_0 (by decide) ?_
  refine lv_istore_n (i := 1) (lv' := [(1, .int (0 : Int32)), (0, va_rf (some h0))]) hx hb dX5_newNames_1 rfl hl (by decide) (by first | rfl | simp [List.filter_cons, z_cat, z_catI, z_catJ, z_catF, z_catD]) (fun ls hl => ?_)
  refine lv_iconst (v := (0 : Int32)) hx hb dX5_newNames_2 (by decide) ?_
  refine lv_istore_n (i := 2) (lv' := [(2, .int (0 : Int32)), (1, .int (0 : Int32)), (0, va_rf (some h0))]) hx hb dX5_newNames_3 rfl hl (by decide) (by first | rfl | simp [List.filter_cons, z_cat, z_catI, z_catJ, z_catF, z_catD]) (fun ls hl => ?_)
  obtain ⟨I_4, ⟨n_48, hI⟩, hB_4⟩ := hw
  have hL_4 : ∀ (n_3 : Nat) (x_1 : Int32) (x_2 : Int32) (H : Heap) (locs : List Loc) (ls : Array Slot), I_4 n_3 x_1 x_2 → lv_has ls 3 [(0, va_rf (some h0)), (1, .int x_1), (2, .int x_2)] → zHd g hp H → H.size = nx → va_S (zAd g) s.heap H locs → W p l e (zrm (d + 1) 0 0) s m ([.ref h0] : List Value).toArray below meth c H locs 0 0 (MQ below (zQi g Post) ([.ref h0] : List Value).toArray s 0 0 (zAd g)) (F0 m 4 ls []) := by
    intro n_3
    induction n_3 using Nat.strongRecOn with
    | _ n_3 ih_4 =>
      intro x_1 x_2 H locs ls hw hl hH hz hS
      have hw := hB_4 n_3 x_1 x_2 hw
      refine lv_iload_n hx hb dX5_newNames_4 rfl (lv_at hl 2 rfl) ?_
      refine zr_aload_n (r := some h0) hx hb dX5_newNames_5 rfl (lv_at hl 0 rfl) ?_
      obtain ⟨a_4, ci_5, fs_6, x_7, er, he, hc, hv, hw⟩ := zgI_e hw
      refine zw_get hk hH er he hv (fk_X5_424 hc) dX5_newNames_6 ?_
      refine lv_icmp_ge (tgt := 69) hx hb dX5_newNames_9 (by decide) (fun hc => ?_) (fun hc => ?_)
      · have hw := hw.1 hc
        refine lv_iload_n hx hb dX5_newNames_69 rfl (lv_at hl 1 rfl) ?_
        exact zr_iret hk hr hH hz hS hw (Nat.le_of_ble_eq_true rfl) (Nat.le_of_ble_eq_true rfl) dX5_newNames_70
      · have hw := hw.2 hc
        refine zr_aload_n (r := some h0) hx hb dX5_newNames_12 rfl (lv_at hl 0 rfl) ?_
        obtain ⟨a_8, ci_9, fs_10, r_11, er, he, hc, hv, hw⟩ := zgR_e hw
        refine zw_get hk hH er he hv (fk_X5_105 hc) dX5_newNames_13 ?_
        refine lv_iload_n hx hb dX5_newNames_16 rfl (lv_at hl 2 rfl) ?_
        obtain ⟨a_12, n_13, f_14, er, he, hi, hw⟩ := zaI_e hw
        have hw := hw _ rfl
        refine zw_iald hk hH er he hi dX5_newNames_17 ?_
        generalize f_14 x_2.toNatClampNeg = x_15 at hw ⊢
        refine lv_bipush (v := (24 : Int32)) hx hb dX5_newNames_18 (by decide) ?_
        obtain ⟨P_34, hP_34, hw⟩ := hw
        have hJ_34 : ∀ (x_16 : Int32) (x_17 : Int32) (H : Heap) (locs : List Loc) (ls : Array Slot), P_34 x_16 x_17 → lv_has ls 3 [(0, va_rf (some h0)), (1, .int x_16), (2, .int x_17)] → zHd g hp H → H.size = nx → va_S (zAd g) s.heap H locs → W p l e (zrm (d + 1) 0 0) s m ([.ref h0] : List Value).toArray below meth c H locs 0 0 (MQ below (zQi g Post) ([.ref h0] : List Value).toArray s 0 0 (zAd g)) (F0 m 34 ls []) := by
          intro x_16 x_17 H locs ls hw hl hH hz hS
          have hw := hP_34 x_16 x_17 hw
          refine zr_aload_n (r := some h0) hx hb dX5_newNames_34 rfl (lv_at hl 0 rfl) ?_
          obtain ⟨a_18, ci_19, fs_20, r_21, er, he, hc, hv, hw⟩ := zgR_e hw
          refine zw_get hk hH er he hv (fk_X5_105 hc) dX5_newNames_35 ?_
          refine lv_iload_n hx hb dX5_newNames_38 rfl (lv_at hl 2 rfl) ?_
          obtain ⟨a_22, n_23, f_24, er, he, hi, hw⟩ := zaI_e hw
          have hw := hw _ rfl
          refine zw_iald hk hH er he hi dX5_newNames_39 ?_
          generalize f_24 x_17.toNatClampNeg = x_25 at hw ⊢
          refine lv_sipush (v := (300 : Int32)) hx hb dX5_newNames_40 (by decide) ?_
          obtain ⟨P_63, hP_63, hw⟩ := hw
          have hJ_63 : ∀ (x_26 : Int32) (x_27 : Int32) (H : Heap) (locs : List Loc) (ls : Array Slot), P_63 x_26 x_27 → lv_has ls 3 [(0, va_rf (some h0)), (1, .int x_26), (2, .int x_27)] → zHd g hp H → H.size = nx → va_S (zAd g) s.heap H locs → W p l e (zrm (d + 1) 0 0) s m ([.ref h0] : List Value).toArray below meth c H locs 0 0 (MQ below (zQi g Post) ([.ref h0] : List Value).toArray s 0 0 (zAd g)) (F0 m 63 ls []) := by
            intro x_26 x_27 H locs ls hw hl hH hz hS
            have hw := hP_63 x_26 x_27 hw
            obtain ⟨x_28, ex_28⟩ : ∃ y : Int32, y = x_27 + (1 : Int32) := ⟨_, rfl⟩
            have hw := hw x_28 ex_28
            refine lv_iinc (v := x_28) (lv' := [(2, .int x_28), (0, va_rf (some h0)), (1, .int x_26)]) hx hb dX5_newNames_63 hl (k := 2) rfl (by rw [ex_28]; rfl) (by decide) (by first | rfl | simp [List.filter_cons, z_cat, z_catI, z_catJ, z_catF, z_catD]) (fun ls hl => ?_)
            refine lv_goto (tgt := 4) hx hb dX5_newNames_66 (by decide) ?_
            obtain ⟨k_29, hlt, hw⟩ := hw
            exact ih_4 k_29 hlt x_26 x_28 _ _ _ hw (lv_sub hl [1, 2, 0] rfl) hH hz hS
          refine lv_icmp_lt (tgt := 63) hx hb dX5_newNames_43 (by decide) (fun hc => ?_) (fun hc => ?_)
          · have hw := hw.1 hc
            exact hJ_63 x_16 x_17 _ _ _ hw hl hH hz hS
          · have hw := hw.2 hc
            refine lv_iload_n hx hb dX5_newNames_46 rfl (lv_at hl 1 rfl) ?_
            refine lv_iconst (v := (1 : Int32)) hx hb dX5_newNames_47 (by decide) ?_
            refine lv_bipush (v := (24 : Int32)) hx hb dX5_newNames_48 (by decide) ?_
            refine zr_aload_n (r := some h0) hx hb dX5_newNames_50 rfl (lv_at hl 0 rfl) ?_
            obtain ⟨a_30, ci_31, fs_32, r_33, er, he, hc, hv, hw⟩ := zgR_e hw
            refine zw_get hk hH er he hv (fk_X5_105 hc) dX5_newNames_51 ?_
            refine lv_iload_n hx hb dX5_newNames_54 rfl (lv_at hl 2 rfl) ?_
            obtain ⟨a_34, n_35, f_36, er, he, hi, hw⟩ := zaI_e hw
            have hw := hw _ rfl
            refine zw_iald hk hH er he hi dX5_newNames_55 ?_
            generalize f_36 x_17.toNatClampNeg = x_37 at hw ⊢
            refine lv_bipush (v := (10 : Int32)) hx hb dX5_newNames_56 (by decide) ?_
            obtain ⟨hne, hw⟩ := hw
            refine lv_irem hx hb dX5_newNames_58 hne ?_
            refine lv_iadd hx hb dX5_newNames_59 ?_
            refine lv_ishl hx hb dX5_newNames_60 ?_
            refine lv_ior hx hb dX5_newNames_61 ?_
            refine lv_topi (fun x_38 ex_38 => ?_)
            have hw := hw x_38 ex_38
            refine lv_istore_n (i := 1) (lv' := [(1, .int x_38), (0, va_rf (some h0)), (2, .int x_17)]) hx hb dX5_newNames_62 rfl hl (by decide) (by first | rfl | simp [List.filter_cons, z_cat, z_catI, z_catJ, z_catF, z_catD]) (fun ls hl => ?_)
            exact hJ_63 x_38 x_17 _ _ _ hw (lv_sub hl [1, 0, 2] rfl) hH hz hS
        refine lv_icmp_ge (tgt := 34) hx hb dX5_newNames_20 (by decide) (fun hc => ?_) (fun hc => ?_)
        · have hw := hw.1 hc
          exact hJ_34 x_1 x_2 _ _ _ hw hl hH hz hS
        · have hw := hw.2 hc
          refine lv_iload_n hx hb dX5_newNames_23 rfl (lv_at hl 1 rfl) ?_
          refine lv_iconst (v := (1 : Int32)) hx hb dX5_newNames_24 (by decide) ?_
          refine zr_aload_n (r := some h0) hx hb dX5_newNames_25 rfl (lv_at hl 0 rfl) ?_
          obtain ⟨a_39, ci_40, fs_41, r_42, er, he, hc, hv, hw⟩ := zgR_e hw
          refine zw_get hk hH er he hv (fk_X5_105 hc) dX5_newNames_26 ?_
          refine lv_iload_n hx hb dX5_newNames_29 rfl (lv_at hl 2 rfl) ?_
          obtain ⟨a_43, n_44, f_45, er, he, hi, hw⟩ := zaI_e hw
          have hw := hw _ rfl
          refine zw_iald hk hH er he hi dX5_newNames_30 ?_
          generalize f_45 x_2.toNatClampNeg = x_46 at hw ⊢
          refine lv_ishl hx hb dX5_newNames_31 ?_
          refine lv_ior hx hb dX5_newNames_32 ?_
          refine lv_topi (fun x_47 ex_47 => ?_)
          have hw := hw x_47 ex_47
          refine lv_istore_n (i := 1) (lv' := [(1, .int x_47), (0, va_rf (some h0)), (2, .int x_2)]) hx hb dX5_newNames_33 rfl hl (by decide) (by first | rfl | simp [List.filter_cons, z_cat, z_catI, z_catJ, z_catF, z_catD]) (fun ls hl => ?_)
          exact hJ_34 x_47 x_2 _ _ _ hw (lv_sub hl [1, 0, 2] rfl) hH hz hS
  exact hL_4 n_48 (0 : Int32) (0 : Int32) _ _ _ hI (lv_sub hl [2, 1, 0] rfl) hH hz hS
def wp_X5_comeTo (l : Launch) (g : zG) (d : Nat) (h0 : Nat) (x1 : Int32) (hp : zHp) (nx : Nat) (Post : Int32 → zHp → Nat → Prop) : Prop :=
  (∃ I_4 : Nat → Int32 → Int32 → zHp → Nat → Prop, (∃ n_82, I_4 n_82 x1 (0 : Int32) hp nx) ∧ ∀ (n_5 : Nat) (x_1 : Int32) (x_2 : Int32) (hp_3 : zHp) (nx_4 : Nat), I_4 n_5 x_1 x_2 hp_3 nx_4 →
  ((x_1 = x_2 →
  (Post x_1 hp_3 nx_4)) ∧
  (¬ x_1 = x_2 →
  (∃ I_14 : Nat → Int32 → Int32 → Int32 → zHp → Nat → Prop, (∃ n_81, I_14 n_81 x_1 x_1 (0 : Int32) hp_3 nx_4) ∧ ∀ (n_11 : Nat) (x_6 : Int32) (x_7 : Int32) (x_8 : Int32) (hp_9 : zHp) (nx_10 : Nat), I_14 n_11 x_6 x_7 x_8 hp_9 nx_10 →
  (((24 : Int32) ≤ x_8 →
  (∃ I_88 : Nat → Int32 → Int32 → Int32 → zHp → Nat → Prop, (∃ n_43, I_88 n_43 x_6 x_7 (0 : Int32) hp_9 nx_10) ∧ ∀ (n_17 : Nat) (x_12 : Int32) (x_13 : Int32) (x_14 : Int32) (hp_15 : zHp) (nx_16 : Nat), I_88 n_17 x_12 x_13 x_14 hp_15 nx_16 →
  (((6 : Int32) ≤ x_14 →
  (∃ k_18, k_18 < n_5 ∧ I_4 k_18 x_12 x_13 hp_15 nx_16)) ∧
  (¬ (6 : Int32) ≤ x_14 →
  (∃ P_130 : Int32 → Int32 → Int32 → zHp → Nat → Prop, (∀ (x_19 : Int32) (x_20 : Int32) (x_21 : Int32) (hp_22 : zHp) (nx_23 : Nat), P_130 x_19 x_20 x_21 hp_22 nx_23 →
  (∀ x_24 : Int32, x_24 = x_21 + (1 : Int32) →
  (∃ k_25, k_25 < n_17 ∧ I_88 k_25 x_19 x_20 x_24 hp_22 nx_23))) ∧
  ((((x_13 >>> (((24 : Int32) + x_14) &&& 31)) &&& (1 : Int32)) = (1 : Int32) →
  (zgR hp_15 (some h0) [5] 6 fun r_29 =>
  (zaI (g.2.1 3) hp_15 r_29 fun a_30 n_31 f_32 => vp_in x_14 n_31 ∧ ∀ x_33 : Int32, x_33 = f_32 x_14.toNatClampNeg →
  ((x_33 = 0 →
  P_130 x_12 x_13 x_14 hp_15 nx_16) ∧
  (¬ x_33 = 0 →
  (zgR hp_15 (some h0) [5] 7 fun r_37 =>
  (zaI (g.2.1 0) hp_15 r_37 fun a_38 n_39 f_40 => vp_in x_14 n_39 ∧ ∀ x_41 : Int32, x_41 = f_40 x_14.toNatClampNeg →
  (∀ x_42 : Int32, x_42 = x_12 ||| ((1 : Int32) <<< (x_41 &&& 31)) →
  P_130 x_42 x_13 x_14 hp_15 nx_16)))))))) ∧
  (¬ ((x_13 >>> (((24 : Int32) + x_14) &&& 31)) &&& (1 : Int32)) = (1 : Int32) →
  P_130 x_12 x_13 x_14 hp_15 nx_16))))))) ∧
  (¬ (24 : Int32) ≤ x_8 →
  (∃ P_79 : Int32 → Int32 → Int32 → zHp → Nat → Prop, (∀ (x_44 : Int32) (x_45 : Int32) (x_46 : Int32) (hp_47 : zHp) (nx_48 : Nat), P_79 x_44 x_45 x_46 hp_47 nx_48 →
  (∀ x_49 : Int32, x_49 = x_46 + (1 : Int32) →
  (∃ k_50, k_50 < n_11 ∧ I_14 k_50 x_44 x_45 x_49 hp_47 nx_48))) ∧
  ((((x_7 >>> (x_8 &&& 31)) &&& (1 : Int32)) = 0 →
  P_79 x_6 x_7 x_8 hp_9 nx_10) ∧
  (¬ ((x_7 >>> (x_8 &&& 31)) &&& (1 : Int32)) = 0 →
  (zo hp_9 (some h0) [5] fun a_78 ci_79 fs_80 => zMt l g yX5_namesCells cX5_namesCells 2 (some .int) d 0 0 (.ref a_78 :: [.int x_8]) hp_9 nx_10 (zQi g fun x_53 hp_51 nx_52 =>
  (∀ x_54 : Int32, x_54 = x_6 ||| x_53 →
  (∃ I_45 : Nat → Int32 → Int32 → Int32 → Int32 → zHp → Nat → Prop, (∃ n_77, I_45 n_77 x_54 x_7 x_8 (0 : Int32) hp_51 nx_52) ∧ ∀ (n_61 : Nat) (x_55 : Int32) (x_56 : Int32) (x_57 : Int32) (x_58 : Int32) (hp_59 : zHp) (nx_60 : Nat), I_45 n_61 x_55 x_56 x_57 x_58 hp_59 nx_60 →
  (((6 : Int32) ≤ x_58 →
  P_79 x_55 x_56 x_57 hp_59 nx_60) ∧
  (¬ (6 : Int32) ≤ x_58 →
  (zo hp_59 (some h0) [5] fun a_74 ci_75 fs_76 => zMt l g yX5_times cX5_times 3 (some .int) d 0 0 (.ref a_74 :: [.int x_57, .int x_58]) hp_59 nx_60 (zQi g fun x_64 hp_62 nx_63 =>
  (∃ P_73 : Int32 → Int32 → Int32 → Int32 → zHp → Nat → Prop, (∀ (x_65 : Int32) (x_66 : Int32) (x_67 : Int32) (x_68 : Int32) (hp_69 : zHp) (nx_70 : Nat), P_73 x_65 x_66 x_67 x_68 hp_69 nx_70 →
  (∀ x_71 : Int32, x_71 = x_68 + (1 : Int32) →
  (∃ k_72, k_72 < n_61 ∧ I_45 k_72 x_65 x_66 x_67 x_71 hp_69 nx_70))) ∧
  ((x_64 ≤ 0 →
  P_73 x_55 x_56 x_57 x_58 hp_62 nx_63) ∧
  (¬ x_64 ≤ 0 →
  (∀ x_73 : Int32, x_73 = x_55 ||| ((1 : Int32) <<< (((24 : Int32) + x_58) &&& 31)) →
  P_73 x_73 x_56 x_57 x_58 hp_62 nx_63)))))))))))))))))))))
set_option maxHeartbeats 40000000 in
theorem met_X5_comeTo {l : Launch} {g : zG} {d : Nat} {h0 : Nat} {x1 : Int32} {hp : zHp} {nx : Nat} {Post : Int32 → zHp → Nat → Prop} (hw : wp_X5_comeTo l g d h0 x1 hp nx Post) : zMt l g yX5_comeTo cX5_comeTo 6 (some .int) (d + 1) 0 0 [.ref h0, .int x1] hp nx (zQi g Post) := by
  refine z_start (by decide) (Nat.le_of_ble_eq_true rfl) ?_
  intro p e s m below meth c hk hr hin hH hz ls hl
  have hx := hk.1.1
  have hb := hk.1.2.1
  have hown := hk.1.2.2.2.1
  have hts := hk.1.2.2.2.2
  have hS : va_S (zAd g) s.heap s.heap [] := va_S.rf
  have hl : lv_has ls 6 [(0, va_rf (some h0)), (1, .int x1)] := hl
  unfold wp_X5_comeTo at hw
  refine lv_iload_n hx hb dX5_comeTo_0 rfl (lv_at hl 1 rfl) ?_
  refine lv_istore_n (i := 2) (lv' := [(2, .int x1), (0, va_rf (some h0)), (1, .int x1)]) hx hb dX5_comeTo_1 rfl hl (by decide) (by first | rfl | simp [List.filter_cons, z_cat, z_catI, z_catJ, z_catF, z_catD]) (fun ls hl => ?_)
  refine lv_iconst (v := (0 : Int32)) hx hb dX5_comeTo_2 (by decide) ?_
  refine lv_istore_n (i := 3) (lv' := [(3, .int (0 : Int32)), (2, .int x1), (0, va_rf (some h0)), (1, .int x1)]) hx hb dX5_comeTo_3 rfl hl (by decide) (by first | rfl | simp [List.filter_cons, z_cat, z_catI, z_catJ, z_catF, z_catD]) (fun ls hl => ?_)
  obtain ⟨I_4, ⟨n_82, hI⟩, hB_4⟩ := hw
  have hL_4 : ∀ (n_5 : Nat) (x_1 : Int32) (x_2 : Int32) (hp_3 : zHp) (nx_4 : Nat) (H : Heap) (locs : List Loc) (ls : Array Slot), I_4 n_5 x_1 x_2 hp_3 nx_4 → lv_has ls 6 [(0, va_rf (some h0)), (1, .int x1), (2, .int x_1), (3, .int x_2)] → zHd g hp_3 H → H.size = nx_4 → va_S (zAd g) s.heap H locs → W p l e (zrm (d + 1) 0 0) s m ([.ref h0, .int x1] : List Value).toArray below meth c H locs 0 0 (MQ below (zQi g Post) ([.ref h0, .int x1] : List Value).toArray s 0 0 (zAd g)) (F0 m 4 ls []) := by
    intro n_5
    induction n_5 using Nat.strongRecOn with
    | _ n_5 ih_4 =>
      intro x_1 x_2 hp_3 nx_4 H locs ls hw hl hH hz hS
      have hw := hB_4 n_5 x_1 x_2 hp_3 nx_4 hw
      refine lv_iload_n hx hb dX5_comeTo_4 rfl (lv_at hl 2 rfl) ?_
      refine lv_iload_n hx hb dX5_comeTo_5 rfl (lv_at hl 3 rfl) ?_
      refine lv_icmp_eq (tgt := 139) hx hb dX5_comeTo_6 (by decide) (fun hc => ?_) (fun hc => ?_)
      · have hw := hw.1 hc
        refine lv_iload_n hx hb dX5_comeTo_139 rfl (lv_at hl 2 rfl) ?_
        exact zr_iret hk hr hH hz hS hw (Nat.le_of_ble_eq_true rfl) (Nat.le_of_ble_eq_true rfl) dX5_comeTo_140
      · have hw := hw.2 hc
        refine lv_iload_n hx hb dX5_comeTo_9 rfl (lv_at hl 2 rfl) ?_
        refine lv_istore_n (i := 3) (lv' := [(3, .int x_1), (0, va_rf (some h0)), (1, .int x1), (2, .int x_1)]) hx hb dX5_comeTo_10 rfl hl (by decide) (by first | rfl | simp [List.filter_cons, z_cat, z_catI, z_catJ, z_catF, z_catD]) (fun ls hl => ?_)
        refine lv_iconst (v := (0 : Int32)) hx hb dX5_comeTo_11 (by decide) ?_
        refine lv_istore (lv' := [(4, .int (0 : Int32)), (3, .int x_1), (0, va_rf (some h0)), (1, .int x1), (2, .int x_1)]) hx hb dX5_comeTo_12 hl (by decide) (by first | rfl | simp [List.filter_cons, z_cat, z_catI, z_catJ, z_catF, z_catD]) (fun ls hl => ?_)
        obtain ⟨I_14, ⟨n_81, hI⟩, hB_14⟩ := hw
        have hL_14 : ∀ (n_11 : Nat) (x_6 : Int32) (x_7 : Int32) (x_8 : Int32) (hp_9 : zHp) (nx_10 : Nat) (H : Heap) (locs : List Loc) (ls : Array Slot), I_14 n_11 x_6 x_7 x_8 hp_9 nx_10 → lv_has ls 6 [(0, va_rf (some h0)), (1, .int x1), (2, .int x_6), (3, .int x_7), (4, .int x_8)] → zHd g hp_9 H → H.size = nx_10 → va_S (zAd g) s.heap H locs → W p l e (zrm (d + 1) 0 0) s m ([.ref h0, .int x1] : List Value).toArray below meth c H locs 0 0 (MQ below (zQi g Post) ([.ref h0, .int x1] : List Value).toArray s 0 0 (zAd g)) (F0 m 14 ls []) := by
          intro n_11
          induction n_11 using Nat.strongRecOn with
          | _ n_11 ih_14 =>
            intro x_6 x_7 x_8 hp_9 nx_10 H locs ls hw hl hH hz hS
            have hw := hB_14 n_11 x_6 x_7 x_8 hp_9 nx_10 hw
            refine lv_iload hx hb dX5_comeTo_14 (lv_at hl 4 rfl) ?_
            refine lv_bipush (v := (24 : Int32)) hx hb dX5_comeTo_16 (by decide) ?_
            refine lv_icmp_ge (tgt := 85) hx hb dX5_comeTo_18 (by decide) (fun hc => ?_) (fun hc => ?_)
            · have hw := hw.1 hc
              refine lv_iconst (v := (0 : Int32)) hx hb dX5_comeTo_85 (by decide) ?_
              refine lv_istore (lv' := [(4, .int (0 : Int32)), (0, va_rf (some h0)), (1, .int x1), (2, .int x_6), (3, .int x_7)]) hx hb dX5_comeTo_86 hl (by decide) (by first | rfl | simp [List.filter_cons, z_cat, z_catI, z_catJ, z_catF, z_catD]) (fun ls hl => ?_)
              obtain ⟨I_88, ⟨n_43, hI⟩, hB_88⟩ := hw
              have hL_88 : ∀ (n_17 : Nat) (x_12 : Int32) (x_13 : Int32) (x_14 : Int32) (hp_15 : zHp) (nx_16 : Nat) (H : Heap) (locs : List Loc) (ls : Array Slot), I_88 n_17 x_12 x_13 x_14 hp_15 nx_16 → lv_has ls 6 [(0, va_rf (some h0)), (1, .int x1), (2, .int x_12), (3, .int x_13), (4, .int x_14)] → zHd g hp_15 H → H.size = nx_16 → va_S (zAd g) s.heap H locs → W p l e (zrm (d + 1) 0 0) s m ([.ref h0, .int x1] : List Value).toArray below meth c H locs 0 0 (MQ below (zQi g Post) ([.ref h0, .int x1] : List Value).toArray s 0 0 (zAd g)) (F0 m 88 ls []) := by
                intro n_17
                induction n_17 using Nat.strongRecOn with
                | _ n_17 ih_88 =>
                  intro x_12 x_13 x_14 hp_15 nx_16 H locs ls hw hl hH hz hS
                  have hw := hB_88 n_17 x_12 x_13 x_14 hp_15 nx_16 hw
                  refine lv_iload hx hb dX5_comeTo_88 (lv_at hl 4 rfl) ?_
                  refine lv_bipush (v := (6 : Int32)) hx hb dX5_comeTo_90 (by decide) ?_
                  refine lv_icmp_ge (tgt := 136) hx hb dX5_comeTo_92 (by decide) (fun hc => ?_) (fun hc => ?_)
                  · have hw := hw.1 hc
                    refine lv_goto (tgt := 4) hx hb dX5_comeTo_136 (by decide) ?_
                    obtain ⟨k_18, hlt, hw⟩ := hw
                    exact ih_4 k_18 hlt x_12 x_13 hp_15 nx_16 _ _ _ hw (lv_sub hl [0, 1, 2, 3] rfl) hH hz hS
                  · have hw := hw.2 hc
                    refine lv_iload_n hx hb dX5_comeTo_95 rfl (lv_at hl 3 rfl) ?_
                    refine lv_bipush (v := (24 : Int32)) hx hb dX5_comeTo_96 (by decide) ?_
                    refine lv_iload hx hb dX5_comeTo_98 (lv_at hl 4 rfl) ?_
                    refine lv_iadd hx hb dX5_comeTo_100 ?_
                    refine lv_ishr hx hb dX5_comeTo_101 ?_
                    refine lv_iconst (v := (1 : Int32)) hx hb dX5_comeTo_102 (by decide) ?_
                    refine lv_iand hx hb dX5_comeTo_103 ?_
                    refine lv_iconst (v := (1 : Int32)) hx hb dX5_comeTo_104 (by decide) ?_
                    obtain ⟨P_130, hP_130, hw⟩ := hw
                    have hJ_130 : ∀ (x_19 : Int32) (x_20 : Int32) (x_21 : Int32) (hp_22 : zHp) (nx_23 : Nat) (H : Heap) (locs : List Loc) (ls : Array Slot), P_130 x_19 x_20 x_21 hp_22 nx_23 → lv_has ls 6 [(0, va_rf (some h0)), (1, .int x1), (2, .int x_19), (3, .int x_20), (4, .int x_21)] → zHd g hp_22 H → H.size = nx_23 → va_S (zAd g) s.heap H locs → W p l e (zrm (d + 1) 0 0) s m ([.ref h0, .int x1] : List Value).toArray below meth c H locs 0 0 (MQ below (zQi g Post) ([.ref h0, .int x1] : List Value).toArray s 0 0 (zAd g)) (F0 m 130 ls []) := by
                      intro x_19 x_20 x_21 hp_22 nx_23 H locs ls hw hl hH hz hS
                      have hw := hP_130 x_19 x_20 x_21 hp_22 nx_23 hw
                      obtain ⟨x_24, ex_24⟩ : ∃ y : Int32, y = x_21 + (1 : Int32) := ⟨_, rfl⟩
                      have hw := hw x_24 ex_24
                      refine lv_iinc (v := x_24) (lv' := [(4, .int x_24), (0, va_rf (some h0)), (1, .int x1), (2, .int x_19), (3, .int x_20)]) hx hb dX5_comeTo_130 hl (k := 4) rfl (by rw [ex_24]; rfl) (by decide) (by first | rfl | simp [List.filter_cons, z_cat, z_catI, z_catJ, z_catF, z_catD]) (fun ls hl => ?_)
                      refine lv_goto (tgt := 88) hx hb dX5_comeTo_133 (by decide) ?_
                      obtain ⟨k_25, hlt, hw⟩ := hw
                      exact ih_88 k_25 hlt x_19 x_20 x_24 hp_22 nx_23 _ _ _ hw (lv_sub hl [1, 2, 3, 4, 0] rfl) hH hz hS
                    refine lv_icmp_ne (tgt := 130) hx hb dX5_comeTo_105 (by decide) (fun hc => ?_) (fun hc => ?_)
                    · have hw := hw.2 hc
                      exact hJ_130 x_12 x_13 x_14 hp_15 nx_16 _ _ _ hw hl hH hz hS
                    · have hw := hw.1 hc
                      refine zr_aload_n (r := some h0) hx hb dX5_comeTo_108 rfl (lv_at hl 0 rfl) ?_
                      obtain ⟨a_26, ci_27, fs_28, r_29, er, he, hc, hv, hw⟩ := zgR_e hw
                      refine zw_get hk hH er he hv (fk_X5_34 hc) dX5_comeTo_109 ?_
                      refine lv_iload hx hb dX5_comeTo_112 (lv_at hl 4 rfl) ?_
                      obtain ⟨a_30, n_31, f_32, er, he, hi, hw⟩ := zaI_e hw
                      have hw := hw _ rfl
                      refine zw_zald hk hH er he hi dX5_comeTo_114 ?_
                      generalize f_32 x_14.toNatClampNeg = x_33 at hw ⊢
                      refine lv_if_eq (tgt := 130) hx hb dX5_comeTo_115 (by decide) (fun hc => ?_) (fun hc => ?_)
                      · have hw := hw.1 hc
                        exact hJ_130 x_12 x_13 x_14 hp_15 nx_16 _ _ _ hw hl hH hz hS
                      · have hw := hw.2 hc
                        refine lv_iload_n hx hb dX5_comeTo_118 rfl (lv_at hl 2 rfl) ?_
                        refine lv_iconst (v := (1 : Int32)) hx hb dX5_comeTo_119 (by decide) ?_
                        refine zr_aload_n (r := some h0) hx hb dX5_comeTo_120 rfl (lv_at hl 0 rfl) ?_
                        obtain ⟨a_34, ci_35, fs_36, r_37, er, he, hc, hv, hw⟩ := zgR_e hw
                        refine zw_get hk hH er he hv (fk_X5_37 hc) dX5_comeTo_121 ?_
                        refine lv_iload hx hb dX5_comeTo_124 (lv_at hl 4 rfl) ?_
                        obtain ⟨a_38, n_39, f_40, er, he, hi, hw⟩ := zaI_e hw
                        have hw := hw _ rfl
                        refine zw_iald hk hH er he hi dX5_comeTo_126 ?_
                        generalize f_40 x_14.toNatClampNeg = x_41 at hw ⊢
                        refine lv_ishl hx hb dX5_comeTo_127 ?_
                        refine lv_ior hx hb dX5_comeTo_128 ?_
                        refine lv_topi (fun x_42 ex_42 => ?_)
                        have hw := hw x_42 ex_42
                        refine lv_istore_n (i := 2) (lv' := [(2, .int x_42), (0, va_rf (some h0)), (1, .int x1), (3, .int x_13), (4, .int x_14)]) hx hb dX5_comeTo_129 rfl hl (by decide) (by first | rfl | simp [List.filter_cons, z_cat, z_catI, z_catJ, z_catF, z_catD]) (fun ls hl => ?_)
                        exact hJ_130 x_42 x_13 x_14 hp_15 nx_16 _ _ _ hw (lv_sub hl [1, 2, 0, 3, 4] rfl) hH hz hS
              exact hL_88 n_43 x_6 x_7 (0 : Int32) hp_9 nx_10 _ _ _ hI (lv_sub hl [1, 2, 3, 4, 0] rfl) hH hz hS
            · have hw := hw.2 hc
              refine lv_iload_n hx hb dX5_comeTo_21 rfl (lv_at hl 3 rfl) ?_
              refine lv_iload hx hb dX5_comeTo_22 (lv_at hl 4 rfl) ?_
              refine lv_ishr hx hb dX5_comeTo_24 ?_
              refine lv_iconst (v := (1 : Int32)) hx hb dX5_comeTo_25 (by decide) ?_
              refine lv_iand hx hb dX5_comeTo_26 ?_
              obtain ⟨P_79, hP_79, hw⟩ := hw
              have hJ_79 : ∀ (x_44 : Int32) (x_45 : Int32) (x_46 : Int32) (hp_47 : zHp) (nx_48 : Nat) (H : Heap) (locs : List Loc) (ls : Array Slot), P_79 x_44 x_45 x_46 hp_47 nx_48 → lv_has ls 6 [(0, va_rf (some h0)), (1, .int x1), (2, .int x_44), (3, .int x_45), (4, .int x_46)] → zHd g hp_47 H → H.size = nx_48 → va_S (zAd g) s.heap H locs → W p l e (zrm (d + 1) 0 0) s m ([.ref h0, .int x1] : List Value).toArray below meth c H locs 0 0 (MQ below (zQi g Post) ([.ref h0, .int x1] : List Value).toArray s 0 0 (zAd g)) (F0 m 79 ls []) := by
                intro x_44 x_45 x_46 hp_47 nx_48 H locs ls hw hl hH hz hS
                have hw := hP_79 x_44 x_45 x_46 hp_47 nx_48 hw
                obtain ⟨x_49, ex_49⟩ : ∃ y : Int32, y = x_46 + (1 : Int32) := ⟨_, rfl⟩
                have hw := hw x_49 ex_49
                refine lv_iinc (v := x_49) (lv' := [(4, .int x_49), (0, va_rf (some h0)), (1, .int x1), (2, .int x_44), (3, .int x_45)]) hx hb dX5_comeTo_79 hl (k := 4) rfl (by rw [ex_49]; rfl) (by decide) (by first | rfl | simp [List.filter_cons, z_cat, z_catI, z_catJ, z_catF, z_catD]) (fun ls hl => ?_)
                refine lv_goto (tgt := 14) hx hb dX5_comeTo_82 (by decide) ?_
                obtain ⟨k_50, hlt, hw⟩ := hw
                exact ih_14 k_50 hlt x_44 x_45 x_49 hp_47 nx_48 _ _ _ hw (lv_sub hl [1, 2, 3, 4, 0] rfl) hH hz hS
              refine lv_if_ne (tgt := 33) hx hb dX5_comeTo_27 (by decide) (fun hc => ?_) (fun hc => ?_)
              · have hw := hw.2 hc
                refine lv_iload_n hx hb dX5_comeTo_33 rfl (lv_at hl 2 rfl) ?_
                refine zr_aload_n (r := some h0) hx hb dX5_comeTo_34 rfl (lv_at hl 0 rfl) ?_
                refine lv_iload hx hb dX5_comeTo_35 (lv_at hl 4 rfl) ?_
                obtain ⟨a_78, ci_79, fs_80, er, he, hc, hw⟩ := zo_e hw
                obtain rfl := List.mem_singleton.mp hc
                refine zr_calli (zw_runV (As := [.int x_8]) hk hH hz hS hl.1 er hw (cwV 1 hts (lw_V q2957 q2959 qs73 q162 q2960) rfl rfl rfl (by decide +kernel) (z_room (Nat.le_of_ble_eq_true rfl))) he rfl rfl rfl (Nat.le_of_ble_eq_true rfl) dX5_comeTo_37 ⟨Nat.le_of_ble_eq_true rfl, Nat.le_of_ble_eq_true rfl⟩) hS (fun x_53 hp_51 nx_52 hw H locs hH hz hS => ?_)
                refine lv_ior hx hb dX5_comeTo_40 ?_
                refine lv_topi (fun x_54 ex_54 => ?_)
                have hw := hw x_54 ex_54
                refine lv_istore_n (i := 2) (lv' := [(2, .int x_54), (0, va_rf (some h0)), (1, .int x1), (3, .int x_7), (4, .int x_8)]) hx hb dX5_comeTo_41 rfl hl (by decide) (by first | rfl | simp [List.filter_cons, z_cat, z_catI, z_catJ, z_catF, z_catD]) (fun ls hl => ?_)
                refine lv_iconst (v := (0 : Int32)) hx hb dX5_comeTo_42 (by decide) ?_
                refine lv_istore (lv' := [(5, .int (0 : Int32)), (2, .int x_54), (0, va_rf (some h0)), (1, .int x1), (3, .int x_7), (4, .int x_8)]) hx hb dX5_comeTo_43 hl (by decide) (by first | rfl | simp [List.filter_cons, z_cat, z_catI, z_catJ, z_catF, z_catD]) (fun ls hl => ?_)
                obtain ⟨I_45, ⟨n_77, hI⟩, hB_45⟩ := hw
                have hL_45 : ∀ (n_61 : Nat) (x_55 : Int32) (x_56 : Int32) (x_57 : Int32) (x_58 : Int32) (hp_59 : zHp) (nx_60 : Nat) (H : Heap) (locs : List Loc) (ls : Array Slot), I_45 n_61 x_55 x_56 x_57 x_58 hp_59 nx_60 → lv_has ls 6 [(0, va_rf (some h0)), (1, .int x1), (2, .int x_55), (3, .int x_56), (4, .int x_57), (5, .int x_58)] → zHd g hp_59 H → H.size = nx_60 → va_S (zAd g) s.heap H locs → W p l e (zrm (d + 1) 0 0) s m ([.ref h0, .int x1] : List Value).toArray below meth c H locs 0 0 (MQ below (zQi g Post) ([.ref h0, .int x1] : List Value).toArray s 0 0 (zAd g)) (F0 m 45 ls []) := by
                  intro n_61
                  induction n_61 using Nat.strongRecOn with
                  | _ n_61 ih_45 =>
                    intro x_55 x_56 x_57 x_58 hp_59 nx_60 H locs ls hw hl hH hz hS
                    have hw := hB_45 n_61 x_55 x_56 x_57 x_58 hp_59 nx_60 hw
                    refine lv_iload hx hb dX5_comeTo_45 (lv_at hl 5 rfl) ?_
                    refine lv_bipush (v := (6 : Int32)) hx hb dX5_comeTo_47 (by decide) ?_
                    refine lv_icmp_ge (tgt := 79) hx hb dX5_comeTo_49 (by decide) (fun hc => ?_) (fun hc => ?_)
                    · have hw := hw.1 hc
                      exact hJ_79 x_55 x_56 x_57 hp_59 nx_60 _ _ _ hw (lv_sub hl [0, 1, 2, 3, 4] rfl) hH hz hS
                    · have hw := hw.2 hc
                      refine zr_aload_n (r := some h0) hx hb dX5_comeTo_52 rfl (lv_at hl 0 rfl) ?_
                      refine lv_iload hx hb dX5_comeTo_53 (lv_at hl 4 rfl) ?_
                      refine lv_iload hx hb dX5_comeTo_55 (lv_at hl 5 rfl) ?_
                      obtain ⟨a_74, ci_75, fs_76, er, he, hc, hw⟩ := zo_e hw
                      obtain rfl := List.mem_singleton.mp hc
                      refine zr_calli (zw_runV (As := [.int x_57, .int x_58]) hk hH hz hS hl.1 er hw (cwV 2 hts (lw_V q2961 q2963 qs74 q162 q2964) rfl rfl rfl (by decide +kernel) (z_room (Nat.le_of_ble_eq_true rfl))) he rfl rfl rfl (Nat.le_of_ble_eq_true rfl) dX5_comeTo_57 ⟨Nat.le_of_ble_eq_true rfl, Nat.le_of_ble_eq_true rfl⟩) hS (fun x_64 hp_62 nx_63 hw H locs hH hz hS => ?_)
                      obtain ⟨P_73, hP_73, hw⟩ := hw
                      have hJ_73 : ∀ (x_65 : Int32) (x_66 : Int32) (x_67 : Int32) (x_68 : Int32) (hp_69 : zHp) (nx_70 : Nat) (H : Heap) (locs : List Loc) (ls : Array Slot), P_73 x_65 x_66 x_67 x_68 hp_69 nx_70 → lv_has ls 6 [(0, va_rf (some h0)), (1, .int x1), (2, .int x_65), (3, .int x_66), (4, .int x_67), (5, .int x_68)] → zHd g hp_69 H → H.size = nx_70 → va_S (zAd g) s.heap H locs → W p l e (zrm (d + 1) 0 0) s m ([.ref h0, .int x1] : List Value).toArray below meth c H locs 0 0 (MQ below (zQi g Post) ([.ref h0, .int x1] : List Value).toArray s 0 0 (zAd g)) (F0 m 73 ls []) := by
                        intro x_65 x_66 x_67 x_68 hp_69 nx_70 H locs ls hw hl hH hz hS
                        have hw := hP_73 x_65 x_66 x_67 x_68 hp_69 nx_70 hw
                        obtain ⟨x_71, ex_71⟩ : ∃ y : Int32, y = x_68 + (1 : Int32) := ⟨_, rfl⟩
                        have hw := hw x_71 ex_71
                        refine lv_iinc (v := x_71) (lv' := [(5, .int x_71), (0, va_rf (some h0)), (1, .int x1), (2, .int x_65), (3, .int x_66), (4, .int x_67)]) hx hb dX5_comeTo_73 hl (k := 5) rfl (by rw [ex_71]; rfl) (by decide) (by first | rfl | simp [List.filter_cons, z_cat, z_catI, z_catJ, z_catF, z_catD]) (fun ls hl => ?_)
                        refine lv_goto (tgt := 45) hx hb dX5_comeTo_76 (by decide) ?_
                        obtain ⟨k_72, hlt, hw⟩ := hw
                        exact ih_45 k_72 hlt x_65 x_66 x_67 x_71 hp_69 nx_70 _ _ _ hw (lv_sub hl [1, 2, 3, 4, 5, 0] rfl) hH hz hS
                      refine lv_if_le (tgt := 73) hx hb dX5_comeTo_60 (by decide) (fun hc => ?_) (fun hc => ?_)
                      · have hw := hw.1 hc
                        exact hJ_73 x_55 x_56 x_57 x_58 hp_62 nx_63 _ _ _ hw hl hH hz hS
                      · have hw := hw.2 hc
                        refine lv_iload_n hx hb dX5_comeTo_63 rfl (lv_at hl 2 rfl) ?_
                        refine lv_iconst (v := (1 : Int32)) hx hb dX5_comeTo_64 (by decide) ?_
                        refine lv_bipush (v := (24 : Int32)) hx hb dX5_comeTo_65 (by decide) ?_
                        refine lv_iload hx hb dX5_comeTo_67 (lv_at hl 5 rfl) ?_
                        refine lv_iadd hx hb dX5_comeTo_69 ?_
                        refine lv_ishl hx hb dX5_comeTo_70 ?_
                        refine lv_ior hx hb dX5_comeTo_71 ?_
                        refine lv_topi (fun x_73 ex_73 => ?_)
                        have hw := hw x_73 ex_73
                        refine lv_istore_n (i := 2) (lv' := [(2, .int x_73), (0, va_rf (some h0)), (1, .int x1), (3, .int x_56), (4, .int x_57), (5, .int x_58)]) hx hb dX5_comeTo_72 rfl hl (by decide) (by first | rfl | simp [List.filter_cons, z_cat, z_catI, z_catJ, z_catF, z_catD]) (fun ls hl => ?_)
                        exact hJ_73 x_73 x_56 x_57 x_58 hp_62 nx_63 _ _ _ hw (lv_sub hl [1, 2, 0, 3, 4, 5] rfl) hH hz hS
                exact hL_45 n_77 x_54 x_7 x_8 (0 : Int32) hp_51 nx_52 _ _ _ hI (lv_sub hl [2, 3, 1, 4, 5, 0] rfl) hH hz hS
              · have hw := hw.1 hc
                refine lv_goto (tgt := 79) hx hb dX5_comeTo_30 (by decide) ?_
                exact hJ_79 x_6 x_7 x_8 hp_9 nx_10 _ _ _ hw hl hH hz hS
        exact hL_14 n_81 x_1 x_1 (0 : Int32) hp_3 nx_4 _ _ _ hI (lv_sub hl [2, 3, 4, 1, 0] rfl) hH hz hS
  exact hL_4 n_82 x1 (0 : Int32) hp nx _ _ _ hI (lv_sub hl [2, 3, 1, 0] rfl) hH hz hS
def wp_X5_isTooMuch (l : Launch) (g : zG) (d : Nat) (h0 : Nat) (hp : zHp) (nx : Nat) (Post : Int32 → zHp → Nat → Prop) : Prop :=
  (zo hp (some h0) [5] fun a_55 ci_56 fs_57 => zMt l g yX5_burdenNow cX5_burdenNow 3 (some .int) d 0 0 (.ref a_55 :: [.int (0 : Int32)]) hp nx (zQi g fun x_3 hp_1 nx_2 =>
  (∃ I_8 : Nat → Int32 → Int32 → zHp → Nat → Prop, (∃ n_54, I_8 n_54 x_3 (0 : Int32) hp_1 nx_2) ∧ ∀ (n_8 : Nat) (x_4 : Int32) (x_5 : Int32) (hp_6 : zHp) (nx_7 : Nat), I_8 n_8 x_4 x_5 hp_6 nx_7 →
  (((24 : Int32) ≤ x_5 →
  (∃ I_32 : Nat → Int32 → Int32 → zHp → Nat → Prop, (∃ n_42, I_32 n_42 x_4 (0 : Int32) hp_6 nx_7) ∧ ∀ (n_13 : Nat) (x_9 : Int32) (x_10 : Int32) (hp_11 : zHp) (nx_12 : Nat), I_32 n_13 x_9 x_10 hp_11 nx_12 →
  (((6 : Int32) ≤ x_10 →
  (∃ P_75 : Int32 → Int32 → Int32 → zHp → Nat → Prop, (∀ (x_14 : Int32) (x_15 : Int32) (x_16 : Int32) (hp_17 : zHp) (nx_18 : Nat), P_75 x_14 x_15 x_16 hp_17 nx_18 →
  (((x_16 = 0 ∨ x_16 = 1) ∧ Post x_16 hp_17 nx_18))) ∧
  ((x_9 ≤ (2000 : Int32) →
  P_75 x_9 x_10 (0 : Int32) hp_11 nx_12) ∧
  (¬ x_9 ≤ (2000 : Int32) →
  P_75 x_9 x_10 (1 : Int32) hp_11 nx_12)))) ∧
  (¬ (6 : Int32) ≤ x_10 →
  (zgR hp_11 (some h0) [5] 6 fun r_22 =>
  (zaI (g.2.1 3) hp_11 r_22 fun a_23 n_24 f_25 => vp_in x_10 n_24 ∧ ∀ x_26 : Int32, x_26 = f_25 x_10.toNatClampNeg →
  (∃ P_57 : Int32 → Int32 → zHp → Nat → Prop, (∀ (x_27 : Int32) (x_28 : Int32) (hp_29 : zHp) (nx_30 : Nat), P_57 x_27 x_28 hp_29 nx_30 →
  (∀ x_31 : Int32, x_31 = x_28 + (1 : Int32) →
  (∃ k_32, k_32 < n_13 ∧ I_32 k_32 x_27 x_31 hp_29 nx_30))) ∧
  ((x_26 = 0 →
  P_57 x_9 x_10 hp_11 nx_12) ∧
  (¬ x_26 = 0 →
  (zo hp_11 (some h0) [5] fun a_39 ci_40 fs_41 => zMt l g yX5_burdenOfTable cX5_burdenOfTable 2 (some .int) d 0 0 (.ref a_39 :: [.int x_10]) hp_11 nx_12 (zQi g fun x_35 hp_33 nx_34 =>
  (zMt l g yJ10_max cJ10_max 2 (some .int) d 0 0 [.int x_9, .int x_35] hp_33 nx_34 (zQi g fun x_38 hp_36 nx_37 =>
  P_57 x_38 x_10 hp_36 nx_37))))))))))))) ∧
  (¬ (24 : Int32) ≤ x_5 →
  (zo hp_6 (some h0) [5] fun a_51 ci_52 fs_53 => zMt l g yX5_burdenOf cX5_burdenOf 7 (some .int) d 0 0 (.ref a_51 :: [.int x_5]) hp_6 nx_7 (zQi g fun x_45 hp_43 nx_44 =>
  (zMt l g yJ10_max cJ10_max 2 (some .int) d 0 0 [.int x_4, .int x_45] hp_43 nx_44 (zQi g fun x_48 hp_46 nx_47 =>
  (∀ x_49 : Int32, x_49 = x_5 + (1 : Int32) →
  (∃ k_50, k_50 < n_8 ∧ I_8 k_50 x_48 x_49 hp_46 nx_47)))))))))))
set_option maxHeartbeats 40000000 in
theorem met_X5_isTooMuch {l : Launch} {g : zG} {d : Nat} {h0 : Nat} {hp : zHp} {nx : Nat} {Post : Int32 → zHp → Nat → Prop} (hw : wp_X5_isTooMuch l g d h0 hp nx Post) : zMt l g yX5_isTooMuch cX5_isTooMuch 3 (some .boolean) (d + 1) 0 0 [.ref h0] hp nx (zQi g Post) := by
  refine z_start (by decide) (Nat.le_of_ble_eq_true rfl) ?_
  intro p e s m below meth c hk hr hin hH hz ls hl
  have hx := hk.1.1
  have hb := hk.1.2.1
  have hown := hk.1.2.2.2.1
  have hts := hk.1.2.2.2.2
  have hS : va_S (zAd g) s.heap s.heap [] := va_S.rf
  have hl : lv_has ls 3 [(0, va_rf (some h0))] := hl
  unfold wp_X5_isTooMuch at hw
  refine zr_aload_n (r := some h0) hx hb dX5_isTooMuch_0 rfl (lv_at hl 0 rfl) ?_
  refine lv_iconst (v := (0 : Int32)) hx hb dX5_isTooMuch_1 (by decide) ?_
  obtain ⟨a_55, ci_56, fs_57, er, he, hc, hw⟩ := zo_e hw
  obtain rfl := List.mem_singleton.mp hc
  refine zr_calli (zw_runV (As := [.int (0 : Int32)]) hk hH hz hS hl.1 er hw (cwV 1 hts (lw_V q2973 q2975 qs77 q162 q2976) rfl rfl rfl (by decide +kernel) (z_room (Nat.le_of_ble_eq_true rfl))) he rfl rfl rfl (Nat.le_of_ble_eq_true rfl) dX5_isTooMuch_2 ⟨Nat.le_of_ble_eq_true rfl, Nat.le_of_ble_eq_true rfl⟩) hS (fun x_3 hp_1 nx_2 hw H locs hH hz hS => ?_)
  refine lv_istore_n (i := 1) (lv' := [(1, .int x_3), (0, va_rf (some h0))]) hx hb dX5_isTooMuch_5 rfl hl (by decide) (by first | rfl | simp [List.filter_cons, z_cat, z_catI, z_catJ, z_catF, z_catD]) (fun ls hl => ?_)
  refine lv_iconst (v := (0 : Int32)) hx hb dX5_isTooMuch_6 (by decide) ?_
  refine lv_istore_n (i := 2) (lv' := [(2, .int (0 : Int32)), (1, .int x_3), (0, va_rf (some h0))]) hx hb dX5_isTooMuch_7 rfl hl (by decide) (by first | rfl | simp [List.filter_cons, z_cat, z_catI, z_catJ, z_catF, z_catD]) (fun ls hl => ?_)
  obtain ⟨I_8, ⟨n_54, hI⟩, hB_8⟩ := hw
  have hL_8 : ∀ (n_8 : Nat) (x_4 : Int32) (x_5 : Int32) (hp_6 : zHp) (nx_7 : Nat) (H : Heap) (locs : List Loc) (ls : Array Slot), I_8 n_8 x_4 x_5 hp_6 nx_7 → lv_has ls 3 [(0, va_rf (some h0)), (1, .int x_4), (2, .int x_5)] → zHd g hp_6 H → H.size = nx_7 → va_S (zAd g) s.heap H locs → W p l e (zrm (d + 1) 0 0) s m ([.ref h0] : List Value).toArray below meth c H locs 0 0 (MQ below (zQi g Post) ([.ref h0] : List Value).toArray s 0 0 (zAd g)) (F0 m 8 ls []) := by
    intro n_8
    induction n_8 using Nat.strongRecOn with
    | _ n_8 ih_8 =>
      intro x_4 x_5 hp_6 nx_7 H locs ls hw hl hH hz hS
      have hw := hB_8 n_8 x_4 x_5 hp_6 nx_7 hw
      refine lv_iload_n hx hb dX5_isTooMuch_8 rfl (lv_at hl 2 rfl) ?_
      refine lv_bipush (v := (24 : Int32)) hx hb dX5_isTooMuch_9 (by decide) ?_
      refine lv_icmp_ge (tgt := 30) hx hb dX5_isTooMuch_11 (by decide) (fun hc => ?_) (fun hc => ?_)
      · have hw := hw.1 hc
        refine lv_iconst (v := (0 : Int32)) hx hb dX5_isTooMuch_30 (by decide) ?_
        refine lv_istore_n (i := 2) (lv' := [(2, .int (0 : Int32)), (0, va_rf (some h0)), (1, .int x_4)]) hx hb dX5_isTooMuch_31 rfl hl (by decide) (by first | rfl | simp [List.filter_cons, z_cat, z_catI, z_catJ, z_catF, z_catD]) (fun ls hl => ?_)
        obtain ⟨I_32, ⟨n_42, hI⟩, hB_32⟩ := hw
        have hL_32 : ∀ (n_13 : Nat) (x_9 : Int32) (x_10 : Int32) (hp_11 : zHp) (nx_12 : Nat) (H : Heap) (locs : List Loc) (ls : Array Slot), I_32 n_13 x_9 x_10 hp_11 nx_12 → lv_has ls 3 [(0, va_rf (some h0)), (1, .int x_9), (2, .int x_10)] → zHd g hp_11 H → H.size = nx_12 → va_S (zAd g) s.heap H locs → W p l e (zrm (d + 1) 0 0) s m ([.ref h0] : List Value).toArray below meth c H locs 0 0 (MQ below (zQi g Post) ([.ref h0] : List Value).toArray s 0 0 (zAd g)) (F0 m 32 ls []) := by
          intro n_13
          induction n_13 using Nat.strongRecOn with
          | _ n_13 ih_32 =>
            intro x_9 x_10 hp_11 nx_12 H locs ls hw hl hH hz hS
            have hw := hB_32 n_13 x_9 x_10 hp_11 nx_12 hw
            refine lv_iload_n hx hb dX5_isTooMuch_32 rfl (lv_at hl 2 rfl) ?_
            refine lv_bipush (v := (6 : Int32)) hx hb dX5_isTooMuch_33 (by decide) ?_
            refine lv_icmp_ge (tgt := 63) hx hb dX5_isTooMuch_35 (by decide) (fun hc => ?_) (fun hc => ?_)
            · have hw := hw.1 hc
              refine lv_iload_n hx hb dX5_isTooMuch_63 rfl (lv_at hl 1 rfl) ?_
              refine lv_sipush (v := (2000 : Int32)) hx hb dX5_isTooMuch_64 (by decide) ?_
              obtain ⟨P_75, hP_75, hw⟩ := hw
              have hJ_75 : ∀ (x_14 : Int32) (x_15 : Int32) (x_16 : Int32) (hp_17 : zHp) (nx_18 : Nat) (H : Heap) (locs : List Loc) (ls : Array Slot), P_75 x_14 x_15 x_16 hp_17 nx_18 → lv_has ls 3 [(0, va_rf (some h0)), (1, .int x_14), (2, .int x_15)] → zHd g hp_17 H → H.size = nx_18 → va_S (zAd g) s.heap H locs → W p l e (zrm (d + 1) 0 0) s m ([.ref h0] : List Value).toArray below meth c H locs 0 0 (MQ below (zQi g Post) ([.ref h0] : List Value).toArray s 0 0 (zAd g)) (F0 m 75 ls [.int x_16]) := by
                intro x_14 x_15 x_16 hp_17 nx_18 H locs ls hw hl hH hz hS
                have hw := hP_75 x_14 x_15 x_16 hp_17 nx_18 hw
                exact zr_zret hk hr hH hz hS hw.1 hw.2 (Nat.le_of_ble_eq_true rfl) (Nat.le_of_ble_eq_true rfl) dX5_isTooMuch_75
              refine lv_icmp_le (tgt := 74) hx hb dX5_isTooMuch_67 (by decide) (fun hc => ?_) (fun hc => ?_)
              · have hw := hw.1 hc
                refine lv_iconst (v := (0 : Int32)) hx hb dX5_isTooMuch_74 (by decide) ?_
                exact hJ_75 x_9 x_10 (0 : Int32) hp_11 nx_12 _ _ _ hw hl hH hz hS
              · have hw := hw.2 hc
                refine lv_iconst (v := (1 : Int32)) hx hb dX5_isTooMuch_70 (by decide) ?_
                refine lv_goto (tgt := 75) hx hb dX5_isTooMuch_71 (by decide) ?_
                exact hJ_75 x_9 x_10 (1 : Int32) hp_11 nx_12 _ _ _ hw hl hH hz hS
            · have hw := hw.2 hc
              refine zr_aload_n (r := some h0) hx hb dX5_isTooMuch_38 rfl (lv_at hl 0 rfl) ?_
              obtain ⟨a_19, ci_20, fs_21, r_22, er, he, hc, hv, hw⟩ := zgR_e hw
              refine zw_get hk hH er he hv (fk_X5_34 hc) dX5_isTooMuch_39 ?_
              refine lv_iload_n hx hb dX5_isTooMuch_42 rfl (lv_at hl 2 rfl) ?_
              obtain ⟨a_23, n_24, f_25, er, he, hi, hw⟩ := zaI_e hw
              have hw := hw _ rfl
              refine zw_zald hk hH er he hi dX5_isTooMuch_43 ?_
              generalize f_25 x_10.toNatClampNeg = x_26 at hw ⊢
              obtain ⟨P_57, hP_57, hw⟩ := hw
              have hJ_57 : ∀ (x_27 : Int32) (x_28 : Int32) (hp_29 : zHp) (nx_30 : Nat) (H : Heap) (locs : List Loc) (ls : Array Slot), P_57 x_27 x_28 hp_29 nx_30 → lv_has ls 3 [(0, va_rf (some h0)), (1, .int x_27), (2, .int x_28)] → zHd g hp_29 H → H.size = nx_30 → va_S (zAd g) s.heap H locs → W p l e (zrm (d + 1) 0 0) s m ([.ref h0] : List Value).toArray below meth c H locs 0 0 (MQ below (zQi g Post) ([.ref h0] : List Value).toArray s 0 0 (zAd g)) (F0 m 57 ls []) := by
                intro x_27 x_28 hp_29 nx_30 H locs ls hw hl hH hz hS
                have hw := hP_57 x_27 x_28 hp_29 nx_30 hw
                obtain ⟨x_31, ex_31⟩ : ∃ y : Int32, y = x_28 + (1 : Int32) := ⟨_, rfl⟩
                have hw := hw x_31 ex_31
                refine lv_iinc (v := x_31) (lv' := [(2, .int x_31), (0, va_rf (some h0)), (1, .int x_27)]) hx hb dX5_isTooMuch_57 hl (k := 2) rfl (by rw [ex_31]; rfl) (by decide) (by first | rfl | simp [List.filter_cons, z_cat, z_catI, z_catJ, z_catF, z_catD]) (fun ls hl => ?_)
                refine lv_goto (tgt := 32) hx hb dX5_isTooMuch_60 (by decide) ?_
                obtain ⟨k_32, hlt, hw⟩ := hw
                exact ih_32 k_32 hlt x_27 x_31 hp_29 nx_30 _ _ _ hw (lv_sub hl [1, 2, 0] rfl) hH hz hS
              refine lv_if_eq (tgt := 57) hx hb dX5_isTooMuch_44 (by decide) (fun hc => ?_) (fun hc => ?_)
              · have hw := hw.1 hc
                exact hJ_57 x_9 x_10 hp_11 nx_12 _ _ _ hw hl hH hz hS
              · have hw := hw.2 hc
                refine lv_iload_n hx hb dX5_isTooMuch_47 rfl (lv_at hl 1 rfl) ?_
                refine zr_aload_n (r := some h0) hx hb dX5_isTooMuch_48 rfl (lv_at hl 0 rfl) ?_
                refine lv_iload_n hx hb dX5_isTooMuch_49 rfl (lv_at hl 2 rfl) ?_
                obtain ⟨a_39, ci_40, fs_41, er, he, hc, hw⟩ := zo_e hw
                obtain rfl := List.mem_singleton.mp hc
                refine zr_calli (zw_runV (As := [.int x_10]) hk hH hz hS hl.1 er hw (cwV 1 hts (lw_V q2981 q2983 qs79 q162 q2984) rfl rfl rfl (by decide +kernel) (z_room (Nat.le_of_ble_eq_true rfl))) he rfl rfl rfl (Nat.le_of_ble_eq_true rfl) dX5_isTooMuch_50 ⟨Nat.le_of_ble_eq_true rfl, Nat.le_of_ble_eq_true rfl⟩) hS (fun x_35 hp_33 nx_34 hw H locs hH hz hS => ?_)
                refine zr_calli (zr_runS (As := [.int x_9, .int x_35]) hk hH hz hS hl.1 hw (va_cwS 2 hts (lw_S q3176 q410 q143 q411) rfl rfl rfl (by decide +kernel) (z_room (Nat.le_of_ble_eq_true rfl))) rfl rfl (Nat.le_of_ble_eq_true rfl) dX5_isTooMuch_53 ⟨Nat.le_of_ble_eq_true rfl, Nat.le_of_ble_eq_true rfl⟩) hS (fun x_38 hp_36 nx_37 hw H locs hH hz hS => ?_)
                refine lv_istore_n (i := 1) (lv' := [(1, .int x_38), (0, va_rf (some h0)), (2, .int x_10)]) hx hb dX5_isTooMuch_56 rfl hl (by decide) (by first | rfl | simp [List.filter_cons, z_cat, z_catI, z_catJ, z_catF, z_catD]) (fun ls hl => ?_)
                exact hJ_57 x_38 x_10 hp_36 nx_37 _ _ _ hw (lv_sub hl [1, 0, 2] rfl) hH hz hS
        exact hL_32 n_42 x_4 (0 : Int32) hp_6 nx_7 _ _ _ hI (lv_sub hl [1, 2, 0] rfl) hH hz hS
      · have hw := hw.2 hc
        refine lv_iload_n hx hb dX5_isTooMuch_14 rfl (lv_at hl 1 rfl) ?_
        refine zr_aload_n (r := some h0) hx hb dX5_isTooMuch_15 rfl (lv_at hl 0 rfl) ?_
        refine lv_iload_n hx hb dX5_isTooMuch_16 rfl (lv_at hl 2 rfl) ?_
        obtain ⟨a_51, ci_52, fs_53, er, he, hc, hw⟩ := zo_e hw
        obtain rfl := List.mem_singleton.mp hc
        refine zr_calli (zw_runV (As := [.int x_5]) hk hH hz hS hl.1 er hw (cwV 1 hts (lw_V q2977 q2979 qs78 q162 q2980) rfl rfl rfl (by decide +kernel) (z_room (Nat.le_of_ble_eq_true rfl))) he rfl rfl rfl (Nat.le_of_ble_eq_true rfl) dX5_isTooMuch_17 ⟨Nat.le_of_ble_eq_true rfl, Nat.le_of_ble_eq_true rfl⟩) hS (fun x_45 hp_43 nx_44 hw H locs hH hz hS => ?_)
        refine zr_calli (zr_runS (As := [.int x_4, .int x_45]) hk hH hz hS hl.1 hw (va_cwS 2 hts (lw_S q3176 q410 q143 q411) rfl rfl rfl (by decide +kernel) (z_room (Nat.le_of_ble_eq_true rfl))) rfl rfl (Nat.le_of_ble_eq_true rfl) dX5_isTooMuch_20 ⟨Nat.le_of_ble_eq_true rfl, Nat.le_of_ble_eq_true rfl⟩) hS (fun x_48 hp_46 nx_47 hw H locs hH hz hS => ?_)
        refine lv_istore_n (i := 1) (lv' := [(1, .int x_48), (0, va_rf (some h0)), (2, .int x_5)]) hx hb dX5_isTooMuch_23 rfl hl (by decide) (by first | rfl | simp [List.filter_cons, z_cat, z_catI, z_catJ, z_catF, z_catD]) (fun ls hl => ?_)
        obtain ⟨x_49, ex_49⟩ : ∃ y : Int32, y = x_5 + (1 : Int32) := ⟨_, rfl⟩
        have hw := hw x_49 ex_49
        refine lv_iinc (v := x_49) (lv' := [(2, .int x_49), (1, .int x_48), (0, va_rf (some h0))]) hx hb dX5_isTooMuch_24 hl (k := 2) rfl (by rw [ex_49]; rfl) (by decide) (by first | rfl | simp [List.filter_cons, z_cat, z_catI, z_catJ, z_catF, z_catD]) (fun ls hl => ?_)
        refine lv_goto (tgt := 8) hx hb dX5_isTooMuch_27 (by decide) ?_
        obtain ⟨k_50, hlt, hw⟩ := hw
        exact ih_8 k_50 hlt x_48 x_49 hp_46 nx_47 _ _ _ hw (lv_sub hl [2, 1, 0] rfl) hH hz hS
  exact hL_8 n_54 x_3 (0 : Int32) hp_1 nx_2 _ _ _ hI (lv_sub hl [2, 1, 0] rfl) hH hz hS
def wp_X5_table (l : Launch) (g : zG) (d : Nat) (h0 : Nat) (x1 : Int32) (x2 : Int32) (x3 : Int32) (x4 : Int32) (hp : zHp) (nx : Nat) (Post : Int32 → zHp → Nat → Prop) : Prop :=
  (zMt l g yX5_isTable cX5_isTable 1 (some .boolean) d 0 0 [.int x1] hp nx (zQi g fun x_3 hp_1 nx_2 =>
  (∃ P_41 : zHp → Nat → Prop, (∀ (hp_4 : zHp) (nx_5 : Nat), P_41 hp_4 nx_5 →
  (Post (-2 : Int32) hp_4 nx_5)) ∧
  ((x_3 = 0 →
  P_41 hp_1 nx_2) ∧
  (¬ x_3 = 0 →
  (zMt l g yX5_isCell cX5_isCell 1 (some .boolean) d 0 0 [.int x2] hp_1 nx_2 (zQi g fun x_8 hp_6 nx_7 =>
  ((x_8 = 0 →
  P_41 hp_6 nx_7) ∧
  (¬ x_8 = 0 →
  (zMt l g yX5_isCell cX5_isCell 1 (some .boolean) d 0 0 [.int x3] hp_6 nx_7 (zQi g fun x_11 hp_9 nx_10 =>
  ((x_11 = 0 →
  P_41 hp_9 nx_10) ∧
  (¬ x_11 = 0 →
  (∃ P_35 : zHp → Nat → Prop, (∀ (hp_12 : zHp) (nx_13 : Nat), P_35 hp_12 nx_13 →
  ((x3 = x4 →
  P_41 hp_12 nx_13) ∧
  (¬ x3 = x4 →
  (zo hp_12 (some h0) [5] fun a_239 ci_240 fs_241 => zMt l g yX5_isInput cX5_isInput 2 (some .boolean) d 0 0 (.ref a_239 :: [.int x3]) hp_12 nx_13 (zQi g fun x_16 hp_14 nx_15 =>
  (∃ P_67 : zHp → Nat → Prop, (∀ (hp_17 : zHp) (nx_18 : Nat), P_67 hp_17 nx_18 →
  (Post (-3 : Int32) hp_17 nx_18)) ∧
  ((x_16 = 0 →
  P_67 hp_14 nx_15) ∧
  (¬ x_16 = 0 →
  (∃ P_70 : zHp → Nat → Prop, (∀ (hp_19 : zHp) (nx_20 : Nat), P_70 hp_19 nx_20 →
  (zgR hp_19 (some h0) [5] 6 fun r_24 =>
  (zaI (g.2.1 3) hp_19 r_24 fun a_25 n_26 f_27 => vp_in x1 n_26 ∧ ∀ x_28 : Int32, x_28 = f_27 x1.toNatClampNeg →
  (zgR hp_19 (some h0) [5] 6 fun r_32 =>
  (zaI (g.2.1 3) hp_19 r_32 fun a_33 n_34 f_35 => vp_in x1 n_34 ∧ zB g ≤ a_33 ∧ ∀ hp_36 : zHp, hp_36 = va_up hp_19 a_33 (some (.inl (g.2.1 3, n_34, .inl (va_up f_35 x1.toNatClampNeg (vp_nar .boolean (0 : Int32)))))) →
  (zo hp_36 (some h0) [5] fun a_230 ci_231 fs_232 => zMt l g yX5_comeTo cX5_comeTo 6 (some .int) d 0 0 (.ref a_230 :: [.int ((1 : Int32) <<< (x2 &&& 31))]) hp_36 nx_20 (zQi g fun x_39 hp_37 nx_38 =>
  (∃ P_108 : Int32 → Int32 → zHp → Nat → Prop, (∀ (x_40 : Int32) (x_41 : Int32) (hp_42 : zHp) (nx_43 : Nat), P_108 x_40 x_41 hp_42 nx_43 →
  (zgR hp_42 (some h0) [5] 6 fun r_47 =>
  (zaI (g.2.1 3) hp_42 r_47 fun a_48 n_49 f_50 => vp_in x1 n_49 ∧ zB g ≤ a_48 ∧ ∀ hp_51 : zHp, hp_51 = va_up hp_42 a_48 (some (.inl (g.2.1 3, n_49, .inl (va_up f_50 x1.toNatClampNeg (vp_nar .boolean x_40))))) →
  ((x_41 = 0 →
  (zgR hp_51 (some h0) [5] 7 fun r_55 =>
  (zaI (g.2.1 0) hp_51 r_55 fun a_56 n_57 f_58 => vp_in x1 n_57 ∧ ∀ x_59 : Int32, x_59 = f_58 x1.toNatClampNeg →
  (zgR hp_51 (some h0) [5] 8 fun r_63 =>
  (zaI (g.2.1 0) hp_51 r_63 fun a_64 n_65 f_66 => vp_in x1 n_65 ∧ ∀ x_67 : Int32, x_67 = f_66 x1.toNatClampNeg →
  (zgR hp_51 (some h0) [5] 9 fun r_71 =>
  (zaI (g.2.1 0) hp_51 r_71 fun a_72 n_73 f_74 => vp_in x1 n_73 ∧ ∀ x_75 : Int32, x_75 = f_74 x1.toNatClampNeg →
  (zgR hp_51 (some h0) [5] 10 fun r_79 =>
  (zaI (g.2.1 0) hp_51 r_79 fun a_80 n_81 f_82 => vp_in ((2 : Int32) * x1) n_81 ∧ ∀ x_83 : Int32, x_83 = f_82 ((2 : Int32) * x1).toNatClampNeg →
  (zgR hp_51 (some h0) [5] 10 fun r_87 =>
  (zaI (g.2.1 0) hp_51 r_87 fun a_88 n_89 f_90 => vp_in (((2 : Int32) * x1) + (1 : Int32)) n_89 ∧ ∀ x_91 : Int32, x_91 = f_90 (((2 : Int32) * x1) + (1 : Int32)).toNatClampNeg →
  (zgR hp_51 (some h0) [5] 6 fun r_95 =>
  (zaI (g.2.1 3) hp_51 r_95 fun a_96 n_97 f_98 => vp_in x1 n_97 ∧ zB g ≤ a_96 ∧ ∀ hp_99 : zHp, hp_99 = va_up hp_51 a_96 (some (.inl (g.2.1 3, n_97, .inl (va_up f_98 x1.toNatClampNeg (vp_nar .boolean (1 : Int32)))))) →
  (zgR hp_99 (some h0) [5] 7 fun r_103 =>
  (zaI (g.2.1 0) hp_99 r_103 fun a_104 n_105 f_106 => vp_in x1 n_105 ∧ zB g ≤ a_104 ∧ ∀ hp_107 : zHp, hp_107 = va_up hp_99 a_104 (some (.inl (g.2.1 0, n_105, .inl (va_up f_106 x1.toNatClampNeg x2)))) →
  (zgR hp_107 (some h0) [5] 8 fun r_111 =>
  (zaI (g.2.1 0) hp_107 r_111 fun a_112 n_113 f_114 => vp_in x1 n_113 ∧ zB g ≤ a_112 ∧ ∀ hp_115 : zHp, hp_115 = va_up hp_107 a_112 (some (.inl (g.2.1 0, n_113, .inl (va_up f_114 x1.toNatClampNeg x3)))) →
  (zgR hp_115 (some h0) [5] 9 fun r_119 =>
  (zaI (g.2.1 0) hp_115 r_119 fun a_120 n_121 f_122 => vp_in x1 n_121 ∧ zB g ≤ a_120 ∧ ∀ hp_123 : zHp, hp_123 = va_up hp_115 a_120 (some (.inl (g.2.1 0, n_121, .inl (va_up f_122 x1.toNatClampNeg x4)))) →
  (zgR hp_123 (some h0) [5] 10 fun r_127 =>
  (zaI (g.2.1 0) hp_123 r_127 fun a_128 n_129 f_130 => vp_in ((2 : Int32) * x1) n_129 ∧ zB g ≤ a_128 ∧ ∀ hp_131 : zHp, hp_131 = va_up hp_123 a_128 (some (.inl (g.2.1 0, n_129, .inl (va_up f_130 ((2 : Int32) * x1).toNatClampNeg (1 : Int32))))) →
  (zgR hp_131 (some h0) [5] 10 fun r_135 =>
  (∃ P_230 : Int32 → Int32 → Int32 → Int32 → Int32 → Int32 → Int32 → (Option Nat) → Int32 → Int32 → zHp → Nat → Prop, (∀ (x_136 : Int32) (x_137 : Int32) (x_138 : Int32) (x_139 : Int32) (x_140 : Int32) (x_141 : Int32) (x_142 : Int32) (r_143 : Option Nat) (x_144 : Int32) (x_145 : Int32) (hp_146 : zHp) (nx_147 : Nat), P_230 x_136 x_137 x_138 x_139 x_140 x_141 x_142 r_143 x_144 x_145 hp_146 nx_147 →
  (zaI (g.2.1 0) hp_146 r_143 fun a_148 n_149 f_150 => vp_in x_144 n_149 ∧ zB g ≤ a_148 ∧ ∀ hp_151 : zHp, hp_151 = va_up hp_146 a_148 (some (.inl (g.2.1 0, n_149, .inl (va_up f_150 x_144.toNatClampNeg x_145)))) →
  (zo hp_151 (some h0) [5] fun a_227 ci_228 fs_229 => zMt l g yX5_isTooMuch cX5_isTooMuch 3 (some .boolean) d 0 0 (.ref a_227 :: []) hp_151 nx_147 (zQi g fun x_154 hp_152 nx_153 =>
  ((x_154 = 0 →
  (zgR hp_152 (some h0) [5] 11 fun r_158 =>
  (zaR (g.2.1 15) hp_152 r_158 fun a_159 n_160 f_161 => vp_in ((2 : Int32) * x1) n_160 ∧ ∀ r_162 : Option Nat, r_162 = f_161 ((2 : Int32) * x1).toNatClampNeg →
  (zaD (g.2.1 1) hp_152 r_162 fun a_163 n_164 f_165 => vp_in (0 : Int32) n_164 ∧ zB g ≤ a_163 ∧ ∀ hp_166 : zHp, hp_166 = va_up hp_152 a_163 (some (.inl (g.2.1 1, n_164, .inr (.inr (.inr (.inl (va_up f_165 (0 : Int32).toNatClampNeg FP.dconst0))))))) →
  (zgR hp_166 (some h0) [5] 11 fun r_170 =>
  (zaR (g.2.1 15) hp_166 r_170 fun a_171 n_172 f_173 => vp_in (((2 : Int32) * x1) + (1 : Int32)) n_172 ∧ ∀ r_174 : Option Nat, r_174 = f_173 (((2 : Int32) * x1) + (1 : Int32)).toNatClampNeg →
  (zaD (g.2.1 1) hp_166 r_174 fun a_175 n_176 f_177 => vp_in (0 : Int32) n_176 ∧ zB g ≤ a_175 ∧ ∀ hp_178 : zHp, hp_178 = va_up hp_166 a_175 (some (.inl (g.2.1 1, n_176, .inr (.inr (.inr (.inl (va_up f_177 (0 : Int32).toNatClampNeg FP.dconst0))))))) →
  (Post (1 : Int32) hp_178 nx_153)))))))) ∧
  (¬ x_154 = 0 →
  (zgR hp_152 (some h0) [5] 6 fun r_182 =>
  (zaI (g.2.1 3) hp_152 r_182 fun a_183 n_184 f_185 => vp_in x1 n_184 ∧ zB g ≤ a_183 ∧ ∀ hp_186 : zHp, hp_186 = va_up hp_152 a_183 (some (.inl (g.2.1 3, n_184, .inl (va_up f_185 x1.toNatClampNeg (vp_nar .boolean x_136))))) →
  (zgR hp_186 (some h0) [5] 7 fun r_190 =>
  (zaI (g.2.1 0) hp_186 r_190 fun a_191 n_192 f_193 => vp_in x1 n_192 ∧ zB g ≤ a_191 ∧ ∀ hp_194 : zHp, hp_194 = va_up hp_186 a_191 (some (.inl (g.2.1 0, n_192, .inl (va_up f_193 x1.toNatClampNeg x_138)))) →
  (zgR hp_194 (some h0) [5] 8 fun r_198 =>
  (zaI (g.2.1 0) hp_194 r_198 fun a_199 n_200 f_201 => vp_in x1 n_200 ∧ zB g ≤ a_199 ∧ ∀ hp_202 : zHp, hp_202 = va_up hp_194 a_199 (some (.inl (g.2.1 0, n_200, .inl (va_up f_201 x1.toNatClampNeg x_139)))) →
  (zgR hp_202 (some h0) [5] 9 fun r_206 =>
  (zaI (g.2.1 0) hp_202 r_206 fun a_207 n_208 f_209 => vp_in x1 n_208 ∧ zB g ≤ a_207 ∧ ∀ hp_210 : zHp, hp_210 = va_up hp_202 a_207 (some (.inl (g.2.1 0, n_208, .inl (va_up f_209 x1.toNatClampNeg x_140)))) →
  (zgR hp_210 (some h0) [5] 10 fun r_214 =>
  (zaI (g.2.1 0) hp_210 r_214 fun a_215 n_216 f_217 => vp_in ((2 : Int32) * x1) n_216 ∧ zB g ≤ a_215 ∧ ∀ hp_218 : zHp, hp_218 = va_up hp_210 a_215 (some (.inl (g.2.1 0, n_216, .inl (va_up f_217 ((2 : Int32) * x1).toNatClampNeg x_141)))) →
  (zgR hp_218 (some h0) [5] 10 fun r_222 =>
  (zaI (g.2.1 0) hp_218 r_222 fun a_223 n_224 f_225 => vp_in (((2 : Int32) * x1) + (1 : Int32)) n_224 ∧ zB g ≤ a_223 ∧ ∀ hp_226 : zHp, hp_226 = va_up hp_218 a_223 (some (.inl (g.2.1 0, n_224, .inl (va_up f_225 (((2 : Int32) * x1) + (1 : Int32)).toNatClampNeg x_142)))) →
  (Post (-4 : Int32) hp_226 nx_153))))))))))))))))))) ∧
  ((x4 = (-1 : Int32) →
  P_230 x_40 x_41 x_59 x_67 x_75 x_83 x_91 r_135 (((2 : Int32) * x1) + (1 : Int32)) (0 : Int32) hp_131 nx_43) ∧
  (¬ x4 = (-1 : Int32) →
  P_230 x_40 x_41 x_59 x_67 x_75 x_83 x_91 r_135 (((2 : Int32) * x1) + (1 : Int32)) (1 : Int32) hp_131 nx_43))))))))))))))))))))))))) ∧
  (¬ x_41 = 0 →
  (Post (-5 : Int32) hp_51 nx_43)))))) ∧
  ((((x_39 >>> (((24 : Int32) + x1) &&& 31)) &&& (1 : Int32)) = (1 : Int32) →
  P_108 x_28 (1 : Int32) hp_37 nx_38) ∧
  (¬ ((x_39 >>> (((24 : Int32) + x1) &&& 31)) &&& (1 : Int32)) = (1 : Int32) →
  P_108 x_28 (0 : Int32) hp_37 nx_38)))))))))) ∧
  ((x4 = (-1 : Int32) →
  P_70 hp_14 nx_15) ∧
  (¬ x4 = (-1 : Int32) →
  (zo hp_14 (some h0) [5] fun a_236 ci_237 fs_238 => zMt l g yX5_isInput cX5_isInput 2 (some .boolean) d 0 0 (.ref a_236 :: [.int x4]) hp_14 nx_15 (zQi g fun x_235 hp_233 nx_234 =>
  ((x_235 = 0 →
  P_67 hp_233 nx_234) ∧
  (¬ x_235 = 0 →
  P_70 hp_233 nx_234))))))))))))))) ∧
  ((x4 = (-1 : Int32) →
  P_35 hp_9 nx_10) ∧
  (¬ x4 = (-1 : Int32) →
  (zMt l g yX5_isCell cX5_isCell 1 (some .boolean) d 0 0 [.int x4] hp_9 nx_10 (zQi g fun x_244 hp_242 nx_243 =>
  ((x_244 = 0 →
  P_41 hp_242 nx_243) ∧
  (¬ x_244 = 0 →
  P_35 hp_242 nx_243))))))))))))))))))))
set_option maxHeartbeats 40000000 in
theorem met_X5_table {l : Launch} {g : zG} {d : Nat} {h0 : Nat} {x1 : Int32} {x2 : Int32} {x3 : Int32} {x4 : Int32} {hp : zHp} {nx : Nat} {Post : Int32 → zHp → Nat → Prop} (hw : wp_X5_table l g d h0 x1 x2 x3 x4 hp nx Post) : zMt l g yX5_table cX5_table 12 (some .int) (d + 1) 0 0 [.ref h0, .int x1, .int x2, .int x3, .int x4] hp nx (zQi g Post) := by
  refine z_start (by decide) (Nat.le_of_ble_eq_true rfl) ?_
  intro p e s m below meth c hk hr hin hH hz ls hl
  have hx := hk.1.1
  have hb := hk.1.2.1
  have hown := hk.1.2.2.2.1
  have hts := hk.1.2.2.2.2
  have hS : va_S (zAd g) s.heap s.heap [] := va_S.rf
  have hl : lv_has ls 12 [(0, va_rf (some h0)), (1, .int x1), (2, .int x2), (3, .int x3), (4, .int x4)] := hl
  unfold wp_X5_table at hw
  refine lv_iload_n hx hb dX5_table_0 rfl (lv_at hl 1 rfl) ?_
  refine zr_calli (zr_runS (As := [.int x1]) hk hH hz hS hl.1 hw (va_cwS 1 hts (lw_S q3181 q3182 q162 q3183) rfl rfl rfl (by decide +kernel) (z_room (Nat.le_of_ble_eq_true rfl))) rfl rfl (Nat.le_of_ble_eq_true rfl) dX5_table_1 ⟨Nat.le_of_ble_eq_true rfl, Nat.le_of_ble_eq_true rfl⟩) hS (fun x_3 hp_1 nx_2 hw H locs hH hz hS => ?_)
  obtain ⟨P_41, hP_41, hw⟩ := hw
  have hJ_41 : ∀ (hp_4 : zHp) (nx_5 : Nat) (H : Heap) (locs : List Loc) (ls : Array Slot), P_41 hp_4 nx_5 → lv_has ls 12 [(0, va_rf (some h0)), (1, .int x1), (2, .int x2), (3, .int x3), (4, .int x4)] → zHd g hp_4 H → H.size = nx_5 → va_S (zAd g) s.heap H locs → W p l e (zrm (d + 1) 0 0) s m ([.ref h0, .int x1, .int x2, .int x3, .int x4] : List Value).toArray below meth c H locs 0 0 (MQ below (zQi g Post) ([.ref h0, .int x1, .int x2, .int x3, .int x4] : List Value).toArray s 0 0 (zAd g)) (F0 m 41 ls []) := by
    intro hp_4 nx_5 H locs ls hw hl hH hz hS
    have hw := hP_41 hp_4 nx_5 hw
    refine lv_bipush (v := (-2 : Int32)) hx hb dX5_table_41 (by decide) ?_
    exact zr_iret hk hr hH hz hS hw (Nat.le_of_ble_eq_true rfl) (Nat.le_of_ble_eq_true rfl) dX5_table_43
  refine lv_if_eq (tgt := 41) hx hb dX5_table_4 (by decide) (fun hc => ?_) (fun hc => ?_)
  · have hw := hw.1 hc
    exact hJ_41 hp_1 nx_2 _ _ _ hw hl hH hz hS
  · have hw := hw.2 hc
    refine lv_iload_n hx hb dX5_table_7 rfl (lv_at hl 2 rfl) ?_
    refine zr_calli (zr_runS (As := [.int x2]) hk hH hz hS hl.1 hw (va_cwS 1 hts (lw_S q2908 q2909 q162 q2910) rfl rfl rfl (by decide +kernel) (z_room (Nat.le_of_ble_eq_true rfl))) rfl rfl (Nat.le_of_ble_eq_true rfl) dX5_table_8 ⟨Nat.le_of_ble_eq_true rfl, Nat.le_of_ble_eq_true rfl⟩) hS (fun x_8 hp_6 nx_7 hw H locs hH hz hS => ?_)
    refine lv_if_eq (tgt := 41) hx hb dX5_table_11 (by decide) (fun hc => ?_) (fun hc => ?_)
    · have hw := hw.1 hc
      exact hJ_41 hp_6 nx_7 _ _ _ hw hl hH hz hS
    · have hw := hw.2 hc
      refine lv_iload_n hx hb dX5_table_14 rfl (lv_at hl 3 rfl) ?_
      refine zr_calli (zr_runS (As := [.int x3]) hk hH hz hS hl.1 hw (va_cwS 1 hts (lw_S q2908 q2909 q162 q2910) rfl rfl rfl (by decide +kernel) (z_room (Nat.le_of_ble_eq_true rfl))) rfl rfl (Nat.le_of_ble_eq_true rfl) dX5_table_15 ⟨Nat.le_of_ble_eq_true rfl, Nat.le_of_ble_eq_true rfl⟩) hS (fun x_11 hp_9 nx_10 hw H locs hH hz hS => ?_)
      refine lv_if_eq (tgt := 41) hx hb dX5_table_18 (by decide) (fun hc => ?_) (fun hc => ?_)
      · have hw := hw.1 hc
        exact hJ_41 hp_9 nx_10 _ _ _ hw hl hH hz hS
      · have hw := hw.2 hc
        refine lv_iload hx hb dX5_table_21 (lv_at hl 4 rfl) ?_
        refine lv_iconst (v := (-1 : Int32)) hx hb dX5_table_23 (by decide) ?_
        obtain ⟨P_35, hP_35, hw⟩ := hw
        have hJ_35 : ∀ (hp_12 : zHp) (nx_13 : Nat) (H : Heap) (locs : List Loc) (ls : Array Slot), P_35 hp_12 nx_13 → lv_has ls 12 [(0, va_rf (some h0)), (1, .int x1), (2, .int x2), (3, .int x3), (4, .int x4)] → zHd g hp_12 H → H.size = nx_13 → va_S (zAd g) s.heap H locs → W p l e (zrm (d + 1) 0 0) s m ([.ref h0, .int x1, .int x2, .int x3, .int x4] : List Value).toArray below meth c H locs 0 0 (MQ below (zQi g Post) ([.ref h0, .int x1, .int x2, .int x3, .int x4] : List Value).toArray s 0 0 (zAd g)) (F0 m 35 ls []) := by
          intro hp_12 nx_13 H locs ls hw hl hH hz hS
          have hw := hP_35 hp_12 nx_13 hw
          refine lv_iload_n hx hb dX5_table_35 rfl (lv_at hl 3 rfl) ?_
          refine lv_iload hx hb dX5_table_36 (lv_at hl 4 rfl) ?_
          refine lv_icmp_ne (tgt := 44) hx hb dX5_table_38 (by decide) (fun hc => ?_) (fun hc => ?_)
          · have hw := hw.2 hc
            refine zr_aload_n (r := some h0) hx hb dX5_table_44 rfl (lv_at hl 0 rfl) ?_
            refine lv_iload_n hx hb dX5_table_45 rfl (lv_at hl 3 rfl) ?_
            obtain ⟨a_239, ci_240, fs_241, er, he, hc, hw⟩ := zo_e hw
            obtain rfl := List.mem_singleton.mp hc
            refine zr_calli (zw_runV (As := [.int x3]) hk hH hz hS hl.1 er hw (cwV 1 hts (lw_V q2919 q2921 qs69 q162 q2922) rfl rfl rfl (by decide +kernel) (z_room (Nat.le_of_ble_eq_true rfl))) he rfl rfl rfl (Nat.le_of_ble_eq_true rfl) dX5_table_46 ⟨Nat.le_of_ble_eq_true rfl, Nat.le_of_ble_eq_true rfl⟩) hS (fun x_16 hp_14 nx_15 hw H locs hH hz hS => ?_)
            obtain ⟨P_67, hP_67, hw⟩ := hw
            have hJ_67 : ∀ (hp_17 : zHp) (nx_18 : Nat) (H : Heap) (locs : List Loc) (ls : Array Slot), P_67 hp_17 nx_18 → lv_has ls 12 [(0, va_rf (some h0)), (1, .int x1), (2, .int x2), (3, .int x3), (4, .int x4)] → zHd g hp_17 H → H.size = nx_18 → va_S (zAd g) s.heap H locs → W p l e (zrm (d + 1) 0 0) s m ([.ref h0, .int x1, .int x2, .int x3, .int x4] : List Value).toArray below meth c H locs 0 0 (MQ below (zQi g Post) ([.ref h0, .int x1, .int x2, .int x3, .int x4] : List Value).toArray s 0 0 (zAd g)) (F0 m 67 ls []) := by
              intro hp_17 nx_18 H locs ls hw hl hH hz hS
              have hw := hP_67 hp_17 nx_18 hw
              refine lv_bipush (v := (-3 : Int32)) hx hb dX5_table_67 (by decide) ?_
              exact zr_iret hk hr hH hz hS hw (Nat.le_of_ble_eq_true rfl) (Nat.le_of_ble_eq_true rfl) dX5_table_69
            refine lv_if_eq (tgt := 67) hx hb dX5_table_49 (by decide) (fun hc => ?_) (fun hc => ?_)
            · have hw := hw.1 hc
              exact hJ_67 hp_14 nx_15 _ _ _ hw hl hH hz hS
            · have hw := hw.2 hc
              refine lv_iload hx hb dX5_table_52 (lv_at hl 4 rfl) ?_
              refine lv_iconst (v := (-1 : Int32)) hx hb dX5_table_54 (by decide) ?_
              obtain ⟨P_70, hP_70, hw⟩ := hw
              have hJ_70 : ∀ (hp_19 : zHp) (nx_20 : Nat) (H : Heap) (locs : List Loc) (ls : Array Slot), P_70 hp_19 nx_20 → lv_has ls 12 [(0, va_rf (some h0)), (1, .int x1), (2, .int x2), (3, .int x3), (4, .int x4)] → zHd g hp_19 H → H.size = nx_20 → va_S (zAd g) s.heap H locs → W p l e (zrm (d + 1) 0 0) s m ([.ref h0, .int x1, .int x2, .int x3, .int x4] : List Value).toArray below meth c H locs 0 0 (MQ below (zQi g Post) ([.ref h0, .int x1, .int x2, .int x3, .int x4] : List Value).toArray s 0 0 (zAd g)) (F0 m 70 ls []) := by
                intro hp_19 nx_20 H locs ls hw hl hH hz hS
                have hw := hP_70 hp_19 nx_20 hw
                refine zr_aload_n (r := some h0) hx hb dX5_table_70 rfl (lv_at hl 0 rfl) ?_
                obtain ⟨a_21, ci_22, fs_23, r_24, er, he, hc, hv, hw⟩ := zgR_e hw
                refine zw_get hk hH er he hv (fk_X5_34 hc) dX5_table_71 ?_
                refine lv_iload_n hx hb dX5_table_74 rfl (lv_at hl 1 rfl) ?_
                obtain ⟨a_25, n_26, f_27, er, he, hi, hw⟩ := zaI_e hw
                have hw := hw _ rfl
                refine zw_zald hk hH er he hi dX5_table_75 ?_
                generalize f_27 x1.toNatClampNeg = x_28 at hw ⊢
                refine lv_istore (lv' := [(5, .int x_28), (0, va_rf (some h0)), (1, .int x1), (2, .int x2), (3, .int x3), (4, .int x4)]) hx hb dX5_table_76 hl (by decide) (by first | rfl | simp [List.filter_cons, z_cat, z_catI, z_catJ, z_catF, z_catD]) (fun ls hl => ?_)
                refine zr_aload_n (r := some h0) hx hb dX5_table_78 rfl (lv_at hl 1 rfl) ?_
                obtain ⟨a_29, ci_30, fs_31, r_32, er, he, hc, hv, hw⟩ := zgR_e hw
                refine zw_get hk hH er he hv (fk_X5_34 hc) dX5_table_79 ?_
                refine lv_iload_n hx hb dX5_table_82 rfl (lv_at hl 2 rfl) ?_
                refine lv_iconst (v := (0 : Int32)) hx hb dX5_table_83 (by decide) ?_
                obtain ⟨a_33, n_34, f_35, er, he, hi, hA, hw⟩ := zaI_e hw
                obtain ⟨hp_36, eh⟩ : ∃ y : zHp, y = va_up hp_19 a_33 (some (.inl (g.2.1 3, n_34, .inl (va_up f_35 x1.toNatClampNeg (vp_nar .boolean (0 : Int32)))))) := ⟨_, rfl⟩
                have hw := hw hp_36 eh
                refine zw_zast hk hH hz hS er he hi hA eh dX5_table_84 (fun H locs hH hz hS => ?_)
                refine zr_aload_n (r := some h0) hx hb dX5_table_85 rfl (lv_at hl 1 rfl) ?_
                refine lv_iconst (v := (1 : Int32)) hx hb dX5_table_86 (by decide) ?_
                refine lv_iload_n hx hb dX5_table_87 rfl (lv_at hl 3 rfl) ?_
                refine lv_ishl hx hb dX5_table_88 ?_
                obtain ⟨a_230, ci_231, fs_232, er, he, hc, hw⟩ := zo_e hw
                obtain rfl := List.mem_singleton.mp hc
                refine zr_calli (zw_runV (As := [.int ((1 : Int32) <<< (x2 &&& 31))]) hk hH hz hS hl.1 er hw (cwV 1 hts (lw_V q3167 q3169 qs112 q162 q3170) rfl rfl rfl (by decide +kernel) (z_room (Nat.le_of_ble_eq_true rfl))) he rfl rfl rfl (Nat.le_of_ble_eq_true rfl) dX5_table_89 ⟨Nat.le_of_ble_eq_true rfl, Nat.le_of_ble_eq_true rfl⟩) hS (fun x_39 hp_37 nx_38 hw H locs hH hz hS => ?_)
                refine lv_bipush (v := (24 : Int32)) hx hb dX5_table_92 (by decide) ?_
                refine lv_iload_n hx hb dX5_table_94 rfl (lv_at hl 2 rfl) ?_
                refine lv_iadd hx hb dX5_table_95 ?_
                refine lv_ishr hx hb dX5_table_96 ?_
                refine lv_iconst (v := (1 : Int32)) hx hb dX5_table_97 (by decide) ?_
                refine lv_iand hx hb dX5_table_98 ?_
                refine lv_iconst (v := (1 : Int32)) hx hb dX5_table_99 (by decide) ?_
                obtain ⟨P_108, hP_108, hw⟩ := hw
                have hJ_108 : ∀ (x_40 : Int32) (x_41 : Int32) (hp_42 : zHp) (nx_43 : Nat) (H : Heap) (locs : List Loc) (ls : Array Slot), P_108 x_40 x_41 hp_42 nx_43 → lv_has ls 12 [(0, va_rf (some h0)), (1, .int x1), (2, .int x2), (3, .int x3), (4, .int x4), (5, .int x_40)] → zHd g hp_42 H → H.size = nx_43 → va_S (zAd g) s.heap H locs → W p l e (zrm (d + 1) 0 0) s m ([.ref h0, .int x1, .int x2, .int x3, .int x4] : List Value).toArray below meth c H locs 0 0 (MQ below (zQi g Post) ([.ref h0, .int x1, .int x2, .int x3, .int x4] : List Value).toArray s 0 0 (zAd g)) (F0 m 108 ls [.int x_41]) := by
                  intro x_40 x_41 hp_42 nx_43 H locs ls hw hl hH hz hS
                  have hw := hP_108 x_40 x_41 hp_42 nx_43 hw
                  refine lv_istore (lv' := [(6, .int x_41), (0, va_rf (some h0)), (1, .int x1), (2, .int x2), (3, .int x3), (4, .int x4), (5, .int x_40)]) hx hb dX5_table_108 hl (by decide) (by first | rfl | simp [List.filter_cons, z_cat, z_catI, z_catJ, z_catF, z_catD]) (fun ls hl => ?_)
                  refine zr_aload_n (r := some h0) hx hb dX5_table_110 rfl (lv_at hl 1 rfl) ?_
                  obtain ⟨a_44, ci_45, fs_46, r_47, er, he, hc, hv, hw⟩ := zgR_e hw
                  refine zw_get hk hH er he hv (fk_X5_34 hc) dX5_table_111 ?_
                  refine lv_iload_n hx hb dX5_table_114 rfl (lv_at hl 2 rfl) ?_
                  refine lv_iload hx hb dX5_table_115 (lv_at hl 6 rfl) ?_
                  obtain ⟨a_48, n_49, f_50, er, he, hi, hA, hw⟩ := zaI_e hw
                  obtain ⟨hp_51, eh⟩ : ∃ y : zHp, y = va_up hp_42 a_48 (some (.inl (g.2.1 3, n_49, .inl (va_up f_50 x1.toNatClampNeg (vp_nar .boolean x_40))))) := ⟨_, rfl⟩
                  have hw := hw hp_51 eh
                  refine zw_zast hk hH hz hS er he hi hA eh dX5_table_117 (fun H locs hH hz hS => ?_)
                  refine lv_iload hx hb dX5_table_118 (lv_at hl 0 rfl) ?_
                  refine lv_if_eq (tgt := 126) hx hb dX5_table_120 (by decide) (fun hc => ?_) (fun hc => ?_)
                  · have hw := hw.1 hc
                    refine zr_aload_n (r := some h0) hx hb dX5_table_126 rfl (lv_at hl 1 rfl) ?_
                    obtain ⟨a_52, ci_53, fs_54, r_55, er, he, hc, hv, hw⟩ := zgR_e hw
                    refine zw_get hk hH er he hv (fk_X5_37 hc) dX5_table_127 ?_
                    refine lv_iload_n hx hb dX5_table_130 rfl (lv_at hl 2 rfl) ?_
                    obtain ⟨a_56, n_57, f_58, er, he, hi, hw⟩ := zaI_e hw
                    have hw := hw _ rfl
                    refine zw_iald hk hH er he hi dX5_table_131 ?_
                    generalize f_58 x1.toNatClampNeg = x_59 at hw ⊢
                    refine lv_istore (lv' := [(7, .int x_59), (6, .int x_41), (0, va_rf (some h0)), (1, .int x1), (2, .int x2), (3, .int x3), (4, .int x4), (5, .int x_40)]) hx hb dX5_table_132 hl (by decide) (by first | rfl | simp [List.filter_cons, z_cat, z_catI, z_catJ, z_catF, z_catD]) (fun ls hl => ?_)
                    refine zr_aload_n (r := some h0) hx hb dX5_table_134 rfl (lv_at hl 2 rfl) ?_
                    obtain ⟨a_60, ci_61, fs_62, r_63, er, he, hc, hv, hw⟩ := zgR_e hw
                    refine zw_get hk hH er he hv (fk_X5_40 hc) dX5_table_135 ?_
                    refine lv_iload_n hx hb dX5_table_138 rfl (lv_at hl 3 rfl) ?_
                    obtain ⟨a_64, n_65, f_66, er, he, hi, hw⟩ := zaI_e hw
                    have hw := hw _ rfl
                    refine zw_iald hk hH er he hi dX5_table_139 ?_
                    generalize f_66 x1.toNatClampNeg = x_67 at hw ⊢
                    refine lv_istore (lv' := [(8, .int x_67), (7, .int x_59), (6, .int x_41), (0, va_rf (some h0)), (1, .int x1), (2, .int x2), (3, .int x3), (4, .int x4), (5, .int x_40)]) hx hb dX5_table_140 hl (by decide) (by first | rfl | simp [List.filter_cons, z_cat, z_catI, z_catJ, z_catF, z_catD]) (fun ls hl => ?_)
                    refine zr_aload_n (r := some h0) hx hb dX5_table_142 rfl (lv_at hl 3 rfl) ?_
                    obtain ⟨a_68, ci_69, fs_70, r_71, er, he, hc, hv, hw⟩ := zgR_e hw
                    refine zw_get hk hH er he hv (fk_X5_43 hc) dX5_table_143 ?_
                    refine lv_iload_n hx hb dX5_table_146 rfl (lv_at hl 4 rfl) ?_
                    obtain ⟨a_72, n_73, f_74, er, he, hi, hw⟩ := zaI_e hw
                    have hw := hw _ rfl
                    refine zw_iald hk hH er he hi dX5_table_147 ?_
                    generalize f_74 x1.toNatClampNeg = x_75 at hw ⊢
                    refine lv_istore (lv' := [(9, .int x_75), (8, .int x_67), (7, .int x_59), (6, .int x_41), (0, va_rf (some h0)), (1, .int x1), (2, .int x2), (3, .int x3), (4, .int x4), (5, .int x_40)]) hx hb dX5_table_148 hl (by decide) (by first | rfl | simp [List.filter_cons, z_cat, z_catI, z_catJ, z_catF, z_catD]) (fun ls hl => ?_)
                    refine zr_aload_n (r := some h0) hx hb dX5_table_150 rfl (lv_at hl 4 rfl) ?_
                    obtain ⟨a_76, ci_77, fs_78, r_79, er, he, hc, hv, hw⟩ := zgR_e hw
                    refine zw_get hk hH er he hv (fk_X5_46 hc) dX5_table_151 ?_
                    refine lv_iconst (v := (2 : Int32)) hx hb dX5_table_154 (by decide) ?_
                    refine lv_iload_n hx hb dX5_table_155 rfl (lv_at hl 5 rfl) ?_
                    refine lv_imul hx hb dX5_table_156 ?_
                    obtain ⟨a_80, n_81, f_82, er, he, hi, hw⟩ := zaI_e hw
                    have hw := hw _ rfl
                    refine zw_iald hk hH er he hi dX5_table_157 ?_
                    generalize f_82 ((2 : Int32) * x1).toNatClampNeg = x_83 at hw ⊢
                    refine lv_istore (lv' := [(10, .int x_83), (9, .int x_75), (8, .int x_67), (7, .int x_59), (6, .int x_41), (0, va_rf (some h0)), (1, .int x1), (2, .int x2), (3, .int x3), (4, .int x4), (5, .int x_40)]) hx hb dX5_table_158 hl (by decide) (by first | rfl | simp [List.filter_cons, z_cat, z_catI, z_catJ, z_catF, z_catD]) (fun ls hl => ?_)
                    refine zr_aload_n (r := some h0) hx hb dX5_table_160 rfl (lv_at hl 5 rfl) ?_
                    obtain ⟨a_84, ci_85, fs_86, r_87, er, he, hc, hv, hw⟩ := zgR_e hw
                    refine zw_get hk hH er he hv (fk_X5_46 hc) dX5_table_161 ?_
                    refine lv_iconst (v := (2 : Int32)) hx hb dX5_table_164 (by decide) ?_
                    refine lv_iload_n hx hb dX5_table_165 rfl (lv_at hl 6 rfl) ?_
                    refine lv_imul hx hb dX5_table_166 ?_
                    refine lv_iconst (v := (1 : Int32)) hx hb dX5_table_167 (by decide) ?_
                    refine lv_iadd hx hb dX5_table_168 ?_
                    obtain ⟨a_88, n_89, f_90, er, he, hi, hw⟩ := zaI_e hw
                    have hw := hw _ rfl
                    refine zw_iald hk hH er he hi dX5_table_169 ?_
                    generalize f_90 (((2 : Int32) * x1) + (1 : Int32)).toNatClampNeg = x_91 at hw ⊢
                    refine lv_istore (lv' := [(11, .int x_91), (10, .int x_83), (9, .int x_75), (8, .int x_67), (7, .int x_59), (6, .int x_41), (0, va_rf (some h0)), (1, .int x1), (2, .int x2), (3, .int x3), (4, .int x4), (5, .int x_40)]) hx hb dX5_table_170 hl (by decide) (by first | rfl | simp [List.filter_cons, z_cat, z_catI, z_catJ, z_catF, z_catD]) (fun ls hl => ?_)
                    refine zr_aload_n (r := some h0) hx hb dX5_table_172 rfl (lv_at hl 6 rfl) ?_
                    obtain ⟨a_92, ci_93, fs_94, r_95, er, he, hc, hv, hw⟩ := zgR_e hw
                    refine zw_get hk hH er he hv (fk_X5_34 hc) dX5_table_173 ?_
                    refine lv_iload_n hx hb dX5_table_176 rfl (lv_at hl 7 rfl) ?_
                    refine lv_iconst (v := (1 : Int32)) hx hb dX5_table_177 (by decide) ?_
                    obtain ⟨a_96, n_97, f_98, er, he, hi, hA, hw⟩ := zaI_e hw
                    obtain ⟨hp_99, eh⟩ : ∃ y : zHp, y = va_up hp_51 a_96 (some (.inl (g.2.1 3, n_97, .inl (va_up f_98 x1.toNatClampNeg (vp_nar .boolean (1 : Int32)))))) := ⟨_, rfl⟩
                    have hw := hw hp_99 eh
                    refine zw_zast hk hH hz hS er he hi hA eh dX5_table_178 (fun H locs hH hz hS => ?_)
                    refine zr_aload_n (r := some h0) hx hb dX5_table_179 rfl (lv_at hl 6 rfl) ?_
                    obtain ⟨a_100, ci_101, fs_102, r_103, er, he, hc, hv, hw⟩ := zgR_e hw
                    refine zw_get hk hH er he hv (fk_X5_37 hc) dX5_table_180 ?_
                    refine lv_iload_n hx hb dX5_table_183 rfl (lv_at hl 7 rfl) ?_
                    refine lv_iload_n hx hb dX5_table_184 rfl (lv_at hl 8 rfl) ?_
                    obtain ⟨a_104, n_105, f_106, er, he, hi, hA, hw⟩ := zaI_e hw
                    obtain ⟨hp_107, eh⟩ : ∃ y : zHp, y = va_up hp_99 a_104 (some (.inl (g.2.1 0, n_105, .inl (va_up f_106 x1.toNatClampNeg x2)))) := ⟨_, rfl⟩
                    have hw := hw hp_107 eh
                    refine zw_iast hk hH hz hS er he hi hA eh dX5_table_185 (fun H locs hH hz hS => ?_)
                    refine zr_aload_n (r := some h0) hx hb dX5_table_186 rfl (lv_at hl 6 rfl) ?_
                    obtain ⟨a_108, ci_109, fs_110, r_111, er, he, hc, hv, hw⟩ := zgR_e hw
                    refine zw_get hk hH er he hv (fk_X5_40 hc) dX5_table_187 ?_
                    refine lv_iload_n hx hb dX5_table_190 rfl (lv_at hl 7 rfl) ?_
                    refine lv_iload_n hx hb dX5_table_191 rfl (lv_at hl 9 rfl) ?_
                    obtain ⟨a_112, n_113, f_114, er, he, hi, hA, hw⟩ := zaI_e hw
                    obtain ⟨hp_115, eh⟩ : ∃ y : zHp, y = va_up hp_107 a_112 (some (.inl (g.2.1 0, n_113, .inl (va_up f_114 x1.toNatClampNeg x3)))) := ⟨_, rfl⟩
                    have hw := hw hp_115 eh
                    refine zw_iast hk hH hz hS er he hi hA eh dX5_table_192 (fun H locs hH hz hS => ?_)
                    refine zr_aload_n (r := some h0) hx hb dX5_table_193 rfl (lv_at hl 6 rfl) ?_
                    obtain ⟨a_116, ci_117, fs_118, r_119, er, he, hc, hv, hw⟩ := zgR_e hw
                    refine zw_get hk hH er he hv (fk_X5_43 hc) dX5_table_194 ?_
                    refine lv_iload_n hx hb dX5_table_197 rfl (lv_at hl 7 rfl) ?_
                    refine lv_iload hx hb dX5_table_198 (lv_at hl 10 rfl) ?_
                    obtain ⟨a_120, n_121, f_122, er, he, hi, hA, hw⟩ := zaI_e hw
                    obtain ⟨hp_123, eh⟩ : ∃ y : zHp, y = va_up hp_115 a_120 (some (.inl (g.2.1 0, n_121, .inl (va_up f_122 x1.toNatClampNeg x4)))) := ⟨_, rfl⟩
                    have hw := hw hp_123 eh
                    refine zw_iast hk hH hz hS er he hi hA eh dX5_table_200 (fun H locs hH hz hS => ?_)
                    refine zr_aload_n (r := some h0) hx hb dX5_table_201 rfl (lv_at hl 6 rfl) ?_
                    obtain ⟨a_124, ci_125, fs_126, r_127, er, he, hc, hv, hw⟩ := zgR_e hw
                    refine zw_get hk hH er he hv (fk_X5_46 hc) dX5_table_202 ?_
                    refine lv_iconst (v := (2 : Int32)) hx hb dX5_table_205 (by decide) ?_
                    refine lv_iload_n hx hb dX5_table_206 rfl (lv_at hl 7 rfl) ?_
                    refine lv_imul hx hb dX5_table_207 ?_
                    refine lv_iconst (v := (1 : Int32)) hx hb dX5_table_208 (by decide) ?_
                    obtain ⟨a_128, n_129, f_130, er, he, hi, hA, hw⟩ := zaI_e hw
                    obtain ⟨hp_131, eh⟩ : ∃ y : zHp, y = va_up hp_123 a_128 (some (.inl (g.2.1 0, n_129, .inl (va_up f_130 ((2 : Int32) * x1).toNatClampNeg (1 : Int32))))) := ⟨_, rfl⟩
                    have hw := hw hp_131 eh
                    refine zw_iast hk hH hz hS er he hi hA eh dX5_table_209 (fun H locs hH hz hS => ?_)
                    refine zr_aload_n (r := some h0) hx hb dX5_table_210 rfl (lv_at hl 6 rfl) ?_
                    obtain ⟨a_132, ci_133, fs_134, r_135, er, he, hc, hv, hw⟩ := zgR_e hw
                    refine zw_get hk hH er he hv (fk_X5_46 hc) dX5_table_211 ?_
                    refine lv_iconst (v := (2 : Int32)) hx hb dX5_table_214 (by decide) ?_
                    refine lv_iload_n hx hb dX5_table_215 rfl (lv_at hl 7 rfl) ?_
                    refine lv_imul hx hb dX5_table_216 ?_
                    refine lv_iconst (v := (1 : Int32)) hx hb dX5_table_217 (by decide) ?_
                    refine lv_iadd hx hb dX5_table_218 ?_
                    refine lv_iload hx hb dX5_table_219 (lv_at hl 10 rfl) ?_
                    refine lv_iconst (v := (-1 : Int32)) hx hb dX5_table_221 (by decide) ?_
                    obtain ⟨P_230, hP_230, hw⟩ := hw
                    have hJ_230 : ∀ (x_136 : Int32) (x_137 : Int32) (x_138 : Int32) (x_139 : Int32) (x_140 : Int32) (x_141 : Int32) (x_142 : Int32) (r_143 : Option Nat) (x_144 : Int32) (x_145 : Int32) (hp_146 : zHp) (nx_147 : Nat) (H : Heap) (locs : List Loc) (ls : Array Slot), P_230 x_136 x_137 x_138 x_139 x_140 x_141 x_142 r_143 x_144 x_145 hp_146 nx_147 → lv_has ls 12 [(0, va_rf (some h0)), (1, .int x1), (2, .int x2), (3, .int x3), (4, .int x4), (5, .int x_136), (6, .int x_137), (7, .int x_138), (8, .int x_139), (9, .int x_140), (10, .int x_141), (11, .int x_142)] → zHd g hp_146 H → H.size = nx_147 → va_S (zAd g) s.heap H locs → W p l e (zrm (d + 1) 0 0) s m ([.ref h0, .int x1, .int x2, .int x3, .int x4] : List Value).toArray below meth c H locs 0 0 (MQ below (zQi g Post) ([.ref h0, .int x1, .int x2, .int x3, .int x4] : List Value).toArray s 0 0 (zAd g)) (F0 m 230 ls [.int x_145, .int x_144, va_rf r_143]) := by
                      intro x_136 x_137 x_138 x_139 x_140 x_141 x_142 r_143 x_144 x_145 hp_146 nx_147 H locs ls hw hl hH hz hS
                      have hw := hP_230 x_136 x_137 x_138 x_139 x_140 x_141 x_142 r_143 x_144 x_145 hp_146 nx_147 hw
                      obtain ⟨a_148, n_149, f_150, er, he, hi, hA, hw⟩ := zaI_e hw
                      obtain ⟨hp_151, eh⟩ : ∃ y : zHp, y = va_up hp_146 a_148 (some (.inl (g.2.1 0, n_149, .inl (va_up f_150 x_144.toNatClampNeg x_145)))) := ⟨_, rfl⟩
                      have hw := hw hp_151 eh
                      refine zw_iast hk hH hz hS er he hi hA eh dX5_table_230 (fun H locs hH hz hS => ?_)
                      refine zr_aload_n (r := some h0) hx hb dX5_table_231 rfl (lv_at hl 0 rfl) ?_
                      obtain ⟨a_227, ci_228, fs_229, er, he, hc, hw⟩ := zo_e hw
                      obtain rfl := List.mem_singleton.mp hc
                      refine zr_calli (zw_runV (As := []) hk hH hz hS hl.1 er hw (cwV 0 hts (lw_V q3172 q3174 qs113 q162 q3175) rfl rfl rfl (by decide +kernel) (z_room (Nat.le_of_ble_eq_true rfl))) he rfl rfl rfl (Nat.le_of_ble_eq_true rfl) dX5_table_232 ⟨Nat.le_of_ble_eq_true rfl, Nat.le_of_ble_eq_true rfl⟩) hS (fun x_154 hp_152 nx_153 hw H locs hH hz hS => ?_)
                      refine lv_if_eq (tgt := 295) hx hb dX5_table_235 (by decide) (fun hc => ?_) (fun hc => ?_)
                      · have hw := hw.1 hc
                        refine zr_aload_n (r := some h0) hx hb dX5_table_295 rfl (lv_at hl 0 rfl) ?_
                        obtain ⟨a_155, ci_156, fs_157, r_158, er, he, hc, hv, hw⟩ := zgR_e hw
                        refine zw_get hk hH er he hv (fk_X5_49 hc) dX5_table_296 ?_
                        refine lv_iconst (v := (2 : Int32)) hx hb dX5_table_299 (by decide) ?_
                        refine lv_iload_n hx hb dX5_table_300 rfl (lv_at hl 1 rfl) ?_
                        refine lv_imul hx hb dX5_table_301 ?_
                        obtain ⟨a_159, n_160, f_161, er, he, hi, hw⟩ := zaR_e hw
                        have hw := hw _ rfl
                        refine zw_aald hk hH 15 er he rfl rfl hi dX5_table_302 ?_
                        generalize f_161 ((2 : Int32) * x1).toNatClampNeg = r_162 at hw ⊢
                        refine lv_iconst (v := (0 : Int32)) hx hb dX5_table_303 (by decide) ?_
                        refine lv_dconst0 hx hb dX5_table_304 ?_
                        obtain ⟨a_163, n_164, f_165, er, he, hi, hA, hw⟩ := zaD_e hw
                        obtain ⟨hp_166, eh⟩ : ∃ y : zHp, y = va_up hp_152 a_163 (some (.inl (g.2.1 1, n_164, .inr (.inr (.inr (.inl (va_up f_165 (0 : Int32).toNatClampNeg FP.dconst0))))))) := ⟨_, rfl⟩
                        have hw := hw hp_166 eh
                        refine zw_dast hk hH hz hS er he hi hA eh dX5_table_305 (fun H locs hH hz hS => ?_)
                        refine zr_aload_n (r := some h0) hx hb dX5_table_306 rfl (lv_at hl 0 rfl) ?_
                        obtain ⟨a_167, ci_168, fs_169, r_170, er, he, hc, hv, hw⟩ := zgR_e hw
                        refine zw_get hk hH er he hv (fk_X5_49 hc) dX5_table_307 ?_
                        refine lv_iconst (v := (2 : Int32)) hx hb dX5_table_310 (by decide) ?_
                        refine lv_iload_n hx hb dX5_table_311 rfl (lv_at hl 1 rfl) ?_
                        refine lv_imul hx hb dX5_table_312 ?_
                        refine lv_iconst (v := (1 : Int32)) hx hb dX5_table_313 (by decide) ?_
                        refine lv_iadd hx hb dX5_table_314 ?_
                        obtain ⟨a_171, n_172, f_173, er, he, hi, hw⟩ := zaR_e hw
                        have hw := hw _ rfl
                        refine zw_aald hk hH 15 er he rfl rfl hi dX5_table_315 ?_
                        generalize f_173 (((2 : Int32) * x1) + (1 : Int32)).toNatClampNeg = r_174 at hw ⊢
                        refine lv_iconst (v := (0 : Int32)) hx hb dX5_table_316 (by decide) ?_
                        refine lv_dconst0 hx hb dX5_table_317 ?_
                        obtain ⟨a_175, n_176, f_177, er, he, hi, hA, hw⟩ := zaD_e hw
                        obtain ⟨hp_178, eh⟩ : ∃ y : zHp, y = va_up hp_166 a_175 (some (.inl (g.2.1 1, n_176, .inr (.inr (.inr (.inl (va_up f_177 (0 : Int32).toNatClampNeg FP.dconst0))))))) := ⟨_, rfl⟩
                        have hw := hw hp_178 eh
                        refine zw_dast hk hH hz hS er he hi hA eh dX5_table_318 (fun H locs hH hz hS => ?_)
                        refine lv_iconst (v := (1 : Int32)) hx hb dX5_table_319 (by decide) ?_
                        exact zr_iret hk hr hH hz hS hw (Nat.le_of_ble_eq_true rfl) (Nat.le_of_ble_eq_true rfl) dX5_table_320
                      · have hw := hw.2 hc
                        refine zr_aload_n (r := some h0) hx hb dX5_table_238 rfl (lv_at hl 0 rfl) ?_
                        obtain ⟨a_179, ci_180, fs_181, r_182, er, he, hc, hv, hw⟩ := zgR_e hw
                        refine zw_get hk hH er he hv (fk_X5_34 hc) dX5_table_239 ?_
                        refine lv_iload_n hx hb dX5_table_242 rfl (lv_at hl 1 rfl) ?_
                        refine lv_iload hx hb dX5_table_243 (lv_at hl 5 rfl) ?_
                        obtain ⟨a_183, n_184, f_185, er, he, hi, hA, hw⟩ := zaI_e hw
                        obtain ⟨hp_186, eh⟩ : ∃ y : zHp, y = va_up hp_152 a_183 (some (.inl (g.2.1 3, n_184, .inl (va_up f_185 x1.toNatClampNeg (vp_nar .boolean x_136))))) := ⟨_, rfl⟩
                        have hw := hw hp_186 eh
                        refine zw_zast hk hH hz hS er he hi hA eh dX5_table_245 (fun H locs hH hz hS => ?_)
                        refine zr_aload_n (r := some h0) hx hb dX5_table_246 rfl (lv_at hl 0 rfl) ?_
                        obtain ⟨a_187, ci_188, fs_189, r_190, er, he, hc, hv, hw⟩ := zgR_e hw
                        refine zw_get hk hH er he hv (fk_X5_37 hc) dX5_table_247 ?_
                        refine lv_iload_n hx hb dX5_table_250 rfl (lv_at hl 1 rfl) ?_
                        refine lv_iload hx hb dX5_table_251 (lv_at hl 7 rfl) ?_
                        obtain ⟨a_191, n_192, f_193, er, he, hi, hA, hw⟩ := zaI_e hw
                        obtain ⟨hp_194, eh⟩ : ∃ y : zHp, y = va_up hp_186 a_191 (some (.inl (g.2.1 0, n_192, .inl (va_up f_193 x1.toNatClampNeg x_138)))) := ⟨_, rfl⟩
                        have hw := hw hp_194 eh
                        refine zw_iast hk hH hz hS er he hi hA eh dX5_table_253 (fun H locs hH hz hS => ?_)
                        refine zr_aload_n (r := some h0) hx hb dX5_table_254 rfl (lv_at hl 0 rfl) ?_
                        obtain ⟨a_195, ci_196, fs_197, r_198, er, he, hc, hv, hw⟩ := zgR_e hw
                        refine zw_get hk hH er he hv (fk_X5_40 hc) dX5_table_255 ?_
                        refine lv_iload_n hx hb dX5_table_258 rfl (lv_at hl 1 rfl) ?_
                        refine lv_iload hx hb dX5_table_259 (lv_at hl 8 rfl) ?_
                        obtain ⟨a_199, n_200, f_201, er, he, hi, hA, hw⟩ := zaI_e hw
                        obtain ⟨hp_202, eh⟩ : ∃ y : zHp, y = va_up hp_194 a_199 (some (.inl (g.2.1 0, n_200, .inl (va_up f_201 x1.toNatClampNeg x_139)))) := ⟨_, rfl⟩
                        have hw := hw hp_202 eh
                        refine zw_iast hk hH hz hS er he hi hA eh dX5_table_261 (fun H locs hH hz hS => ?_)
                        refine zr_aload_n (r := some h0) hx hb dX5_table_262 rfl (lv_at hl 0 rfl) ?_
                        obtain ⟨a_203, ci_204, fs_205, r_206, er, he, hc, hv, hw⟩ := zgR_e hw
                        refine zw_get hk hH er he hv (fk_X5_43 hc) dX5_table_263 ?_
                        refine lv_iload_n hx hb dX5_table_266 rfl (lv_at hl 1 rfl) ?_
                        refine lv_iload hx hb dX5_table_267 (lv_at hl 9 rfl) ?_
                        obtain ⟨a_207, n_208, f_209, er, he, hi, hA, hw⟩ := zaI_e hw
                        obtain ⟨hp_210, eh⟩ : ∃ y : zHp, y = va_up hp_202 a_207 (some (.inl (g.2.1 0, n_208, .inl (va_up f_209 x1.toNatClampNeg x_140)))) := ⟨_, rfl⟩
                        have hw := hw hp_210 eh
                        refine zw_iast hk hH hz hS er he hi hA eh dX5_table_269 (fun H locs hH hz hS => ?_)
                        refine zr_aload_n (r := some h0) hx hb dX5_table_270 rfl (lv_at hl 0 rfl) ?_
                        obtain ⟨a_211, ci_212, fs_213, r_214, er, he, hc, hv, hw⟩ := zgR_e hw
                        refine zw_get hk hH er he hv (fk_X5_46 hc) dX5_table_271 ?_
                        refine lv_iconst (v := (2 : Int32)) hx hb dX5_table_274 (by decide) ?_
                        refine lv_iload_n hx hb dX5_table_275 rfl (lv_at hl 1 rfl) ?_
                        refine lv_imul hx hb dX5_table_276 ?_
                        refine lv_iload hx hb dX5_table_277 (lv_at hl 10 rfl) ?_
                        obtain ⟨a_215, n_216, f_217, er, he, hi, hA, hw⟩ := zaI_e hw
                        obtain ⟨hp_218, eh⟩ : ∃ y : zHp, y = va_up hp_210 a_215 (some (.inl (g.2.1 0, n_216, .inl (va_up f_217 ((2 : Int32) * x1).toNatClampNeg x_141)))) := ⟨_, rfl⟩
                        have hw := hw hp_218 eh
                        refine zw_iast hk hH hz hS er he hi hA eh dX5_table_279 (fun H locs hH hz hS => ?_)
                        refine zr_aload_n (r := some h0) hx hb dX5_table_280 rfl (lv_at hl 0 rfl) ?_
                        obtain ⟨a_219, ci_220, fs_221, r_222, er, he, hc, hv, hw⟩ := zgR_e hw
                        refine zw_get hk hH er he hv (fk_X5_46 hc) dX5_table_281 ?_
                        refine lv_iconst (v := (2 : Int32)) hx hb dX5_table_284 (by decide) ?_
                        refine lv_iload_n hx hb dX5_table_285 rfl (lv_at hl 1 rfl) ?_
                        refine lv_imul hx hb dX5_table_286 ?_
                        refine lv_iconst (v := (1 : Int32)) hx hb dX5_table_287 (by decide) ?_
                        refine lv_iadd hx hb dX5_table_288 ?_
                        refine lv_iload hx hb dX5_table_289 (lv_at hl 11 rfl) ?_
                        obtain ⟨a_223, n_224, f_225, er, he, hi, hA, hw⟩ := zaI_e hw
                        obtain ⟨hp_226, eh⟩ : ∃ y : zHp, y = va_up hp_218 a_223 (some (.inl (g.2.1 0, n_224, .inl (va_up f_225 (((2 : Int32) * x1) + (1 : Int32)).toNatClampNeg x_142)))) := ⟨_, rfl⟩
                        have hw := hw hp_226 eh
                        refine zw_iast hk hH hz hS er he hi hA eh dX5_table_291 (fun H locs hH hz hS => ?_)
                        refine lv_bipush (v := (-4 : Int32)) hx hb dX5_table_292 (by decide) ?_
                        exact zr_iret hk hr hH hz hS hw (Nat.le_of_ble_eq_true rfl) (Nat.le_of_ble_eq_true rfl) dX5_table_294
                    refine lv_icmp_ne (tgt := 229) hx hb dX5_table_222 (by decide) (fun hc => ?_) (fun hc => ?_)
                    · have hw := hw.2 hc
                      refine lv_iconst (v := (1 : Int32)) hx hb dX5_table_229 (by decide) ?_
                      exact hJ_230 x_40 x_41 x_59 x_67 x_75 x_83 x_91 r_135 (((2 : Int32) * x1) + (1 : Int32)) (1 : Int32) hp_131 nx_43 _ _ _ hw (lv_sub hl [6, 7, 8, 9, 10, 11, 5, 4, 3, 2, 1, 0] rfl) hH hz hS
                    · have hw := hw.1 hc
                      refine lv_iconst (v := (0 : Int32)) hx hb dX5_table_225 (by decide) ?_
                      refine lv_goto (tgt := 230) hx hb dX5_table_226 (by decide) ?_
                      exact hJ_230 x_40 x_41 x_59 x_67 x_75 x_83 x_91 r_135 (((2 : Int32) * x1) + (1 : Int32)) (0 : Int32) hp_131 nx_43 _ _ _ hw (lv_sub hl [6, 7, 8, 9, 10, 11, 5, 4, 3, 2, 1, 0] rfl) hH hz hS
                  · have hw := hw.2 hc
                    refine lv_bipush (v := (-5 : Int32)) hx hb dX5_table_123 (by decide) ?_
                    exact zr_iret hk hr hH hz hS hw (Nat.le_of_ble_eq_true rfl) (Nat.le_of_ble_eq_true rfl) dX5_table_125
                refine lv_icmp_ne (tgt := 107) hx hb dX5_table_100 (by decide) (fun hc => ?_) (fun hc => ?_)
                · have hw := hw.2 hc
                  refine lv_iconst (v := (0 : Int32)) hx hb dX5_table_107 (by decide) ?_
                  exact hJ_108 x_28 (0 : Int32) hp_37 nx_38 _ _ _ hw (lv_sub hl [1, 2, 3, 4, 5, 0] rfl) hH hz hS
                · have hw := hw.1 hc
                  refine lv_iconst (v := (1 : Int32)) hx hb dX5_table_103 (by decide) ?_
                  refine lv_goto (tgt := 108) hx hb dX5_table_104 (by decide) ?_
                  exact hJ_108 x_28 (1 : Int32) hp_37 nx_38 _ _ _ hw (lv_sub hl [1, 2, 3, 4, 5, 0] rfl) hH hz hS
              refine lv_icmp_eq (tgt := 70) hx hb dX5_table_55 (by decide) (fun hc => ?_) (fun hc => ?_)
              · have hw := hw.1 hc
                exact hJ_70 hp_14 nx_15 _ _ _ hw hl hH hz hS
              · have hw := hw.2 hc
                refine zr_aload_n (r := some h0) hx hb dX5_table_58 rfl (lv_at hl 0 rfl) ?_
                refine lv_iload hx hb dX5_table_59 (lv_at hl 4 rfl) ?_
                obtain ⟨a_236, ci_237, fs_238, er, he, hc, hw⟩ := zo_e hw
                obtain rfl := List.mem_singleton.mp hc
                refine zr_calli (zw_runV (As := [.int x4]) hk hH hz hS hl.1 er hw (cwV 1 hts (lw_V q2919 q2921 qs69 q162 q2922) rfl rfl rfl (by decide +kernel) (z_room (Nat.le_of_ble_eq_true rfl))) he rfl rfl rfl (Nat.le_of_ble_eq_true rfl) dX5_table_61 ⟨Nat.le_of_ble_eq_true rfl, Nat.le_of_ble_eq_true rfl⟩) hS (fun x_235 hp_233 nx_234 hw H locs hH hz hS => ?_)
                refine lv_if_ne (tgt := 70) hx hb dX5_table_64 (by decide) (fun hc => ?_) (fun hc => ?_)
                · have hw := hw.2 hc
                  exact hJ_70 hp_233 nx_234 _ _ _ hw hl hH hz hS
                · have hw := hw.1 hc
                  exact hJ_67 hp_233 nx_234 _ _ _ hw hl hH hz hS
          · have hw := hw.1 hc
            exact hJ_41 hp_12 nx_13 _ _ _ hw hl hH hz hS
        refine lv_icmp_eq (tgt := 35) hx hb dX5_table_24 (by decide) (fun hc => ?_) (fun hc => ?_)
        · have hw := hw.1 hc
          exact hJ_35 hp_9 nx_10 _ _ _ hw hl hH hz hS
        · have hw := hw.2 hc
          refine lv_iload hx hb dX5_table_27 (lv_at hl 4 rfl) ?_
          refine zr_calli (zr_runS (As := [.int x4]) hk hH hz hS hl.1 hw (va_cwS 1 hts (lw_S q2908 q2909 q162 q2910) rfl rfl rfl (by decide +kernel) (z_room (Nat.le_of_ble_eq_true rfl))) rfl rfl (Nat.le_of_ble_eq_true rfl) dX5_table_29 ⟨Nat.le_of_ble_eq_true rfl, Nat.le_of_ble_eq_true rfl⟩) hS (fun x_244 hp_242 nx_243 hw H locs hH hz hS => ?_)
          refine lv_if_eq (tgt := 41) hx hb dX5_table_32 (by decide) (fun hc => ?_) (fun hc => ?_)
          · have hw := hw.1 hc
            exact hJ_41 hp_242 nx_243 _ _ _ hw hl hH hz hS
          · have hw := hw.2 hc
            exact hJ_35 hp_242 nx_243 _ _ _ hw hl hH hz hS
def wp_X5_isTable (l : Launch) (g : zG) (d : Nat) (x0 : Int32) (hp : zHp) (nx : Nat) (Post : Int32 → zHp → Nat → Prop) : Prop :=
  (zMt l g yX5_in cX5_in 3 (some .boolean) d 0 0 [.int x0, .int (0 : Int32), .int (5 : Int32)] hp nx (zQi g fun x_3 hp_1 nx_2 =>
  (((x_3 = 0 ∨ x_3 = 1) ∧ Post x_3 hp_1 nx_2))))
set_option maxHeartbeats 40000000 in
theorem met_X5_isTable {l : Launch} {g : zG} {d : Nat} {x0 : Int32} {hp : zHp} {nx : Nat} {Post : Int32 → zHp → Nat → Prop} (hw : wp_X5_isTable l g d x0 hp nx Post) : zMt l g yX5_isTable cX5_isTable 1 (some .boolean) (d + 1) 0 0 [.int x0] hp nx (zQi g Post) := by
  refine z_start (by decide) (Nat.le_of_ble_eq_true rfl) ?_
  intro p e s m below meth c hk hr hin hH hz ls hl
  have hx := hk.1.1
  have hb := hk.1.2.1
  have hown := hk.1.2.2.2.1
  have hts := hk.1.2.2.2.2
  have hS : va_S (zAd g) s.heap s.heap [] := va_S.rf
  have hl : lv_has ls 1 [(0, .int x0)] := hl
  unfold wp_X5_isTable at hw
  refine lv_iload_n hx hb dX5_isTable_0 rfl (lv_at hl 0 rfl) ?_
  refine lv_iconst (v := (0 : Int32)) hx hb dX5_isTable_1 (by decide) ?_
  refine lv_iconst (v := (5 : Int32)) hx hb dX5_isTable_2 (by decide) ?_
  refine zr_calli (zr_runS (As := [.int x0, .int (0 : Int32), .int (5 : Int32)]) hk hH hz hS hl.1 hw (va_cwS 3 hts (lw_S q2911 q2912 q162 q2913) rfl rfl rfl (by decide +kernel) (z_room (Nat.le_of_ble_eq_true rfl))) rfl rfl (Nat.le_of_ble_eq_true rfl) dX5_isTable_3 ⟨Nat.le_of_ble_eq_true rfl, Nat.le_of_ble_eq_true rfl⟩) hS (fun x_3 hp_1 nx_2 hw H locs hH hz hS => ?_)
  exact zr_zret hk hr hH hz hS hw.1 hw.2 (Nat.le_of_ble_eq_true rfl) (Nat.le_of_ble_eq_true rfl) dX5_isTable_6
def wp_X5_axis (l : Launch) (g : zG) (d : Nat) (h0 : Nat) (x1 : Int32) (x2 : Int32) (x3 : Int32) (x4 : Int32) (x5 : Int32) (hp : zHp) (nx : Nat) (Post : Int32 → zHp → Nat → Prop) : Prop :=
  (zMt l g yX5_isTable cX5_isTable 1 (some .boolean) d 0 0 [.int x1] hp nx (zQi g fun x_3 hp_1 nx_2 =>
  (∃ P_54 : zHp → Nat → Prop, (∀ (hp_4 : zHp) (nx_5 : Nat), P_54 hp_4 nx_5 →
  (Post (-2 : Int32) hp_4 nx_5)) ∧
  ((x_3 = 0 →
  P_54 hp_1 nx_2) ∧
  (¬ x_3 = 0 →
  (zMt l g yX5_in cX5_in 3 (some .boolean) d 0 0 [.int x2, .int (0 : Int32), .int (1 : Int32)] hp_1 nx_2 (zQi g fun x_8 hp_6 nx_7 =>
  ((x_8 = 0 →
  P_54 hp_6 nx_7) ∧
  (¬ x_8 = 0 →
  (zMt l g yX5_in cX5_in 3 (some .boolean) d 0 0 [.int x3, .int (-80000 : Int32), .int (80000 : Int32)] hp_6 nx_7 (zQi g fun x_11 hp_9 nx_10 =>
  ((x_11 = 0 →
  P_54 hp_9 nx_10) ∧
  (¬ x_11 = 0 →
  (zMt l g yX5_in cX5_in 3 (some .boolean) d 0 0 [.int x4, .int (-8000 : Int32), .int (8000 : Int32)] hp_9 nx_10 (zQi g fun x_14 hp_12 nx_13 =>
  ((x_14 = 0 →
  P_54 hp_12 nx_13) ∧
  (¬ x_14 = 0 →
  (zMt l g yX5_in cX5_in 3 (some .boolean) d 0 0 [.int x5, .int (1 : Int32), .int (8 : Int32)] hp_12 nx_13 (zQi g fun x_17 hp_15 nx_16 =>
  ((x_17 = 0 →
  P_54 hp_15 nx_16) ∧
  (¬ x_17 = 0 →
  (zgR hp_15 (some h0) [5] 6 fun r_21 =>
  (zaI (g.2.1 3) hp_15 r_21 fun a_22 n_23 f_24 => vp_in x1 n_23 ∧ ∀ x_25 : Int32, x_25 = f_24 x1.toNatClampNeg →
  (∃ P_81 : zHp → Nat → Prop, (∀ (hp_26 : zHp) (nx_27 : Nat), P_81 hp_26 nx_27 →
  (Post (-3 : Int32) hp_26 nx_27)) ∧
  ((x_25 = 0 →
  P_81 hp_15 nx_16) ∧
  (¬ x_25 = 0 →
  (∃ P_84 : zHp → Nat → Prop, (∀ (hp_28 : zHp) (nx_29 : Nat), P_84 hp_28 nx_29 →
  (zo hp_28 (some h0) [5] fun a_58 ci_59 fs_60 => zMt l g yX5_hasRoom cX5_hasRoom 7 (some .boolean) d 0 0 (.ref a_58 :: [.int x1, .int x2, .int x5]) hp_28 nx_29 (zQi g fun x_32 hp_30 nx_31 =>
  ((x_32 = 0 →
  (Post (-4 : Int32) hp_30 nx_31)) ∧
  (¬ x_32 = 0 →
  (∃ I_101 : Nat → Int32 → zHp → Nat → Prop, (∃ n_57, I_101 n_57 (0 : Int32) hp_30 nx_31) ∧ ∀ (n_36 : Nat) (x_33 : Int32) (hp_34 : zHp) (nx_35 : Nat), I_101 n_36 x_33 hp_34 nx_35 →
  ((x5 ≤ x_33 →
  (zo hp_34 (some h0) [5] fun a_40 ci_41 fs_42 => zMt l g yX5_cases cX5_cases 2 (some .int) d 0 0 (.ref a_40 :: [.int x1]) hp_34 nx_35 (zQi g fun x_39 hp_37 nx_38 =>
  (Post x_39 hp_37 nx_38)))) ∧
  (¬ x5 ≤ x_33 →
  (zgR hp_34 (some h0) [5] 11 fun r_46 =>
  (zaR (g.2.1 15) hp_34 r_46 fun a_47 n_48 f_49 => vp_in (((2 : Int32) * x1) + x2) n_48 ∧ ∀ r_50 : Option Nat, r_50 = f_49 (((2 : Int32) * x1) + x2).toNatClampNeg →
  (vf_n64 (FP.ddiv (FP.i2d (x3 + (x_33 * x4))) (4620693217682128896 : UInt64)) ∧ (zaD (g.2.1 1) hp_34 r_50 fun a_51 n_52 f_53 => vp_in x_33 n_52 ∧ zB g ≤ a_51 ∧ ∀ hp_54 : zHp, hp_54 = va_up hp_34 a_51 (some (.inl (g.2.1 1, n_52, .inr (.inr (.inr (.inl (va_up f_53 x_33.toNatClampNeg (FP.ddiv (FP.i2d (x3 + (x_33 * x4))) (4620693217682128896 : UInt64))))))))) →
  (∀ x_55 : Int32, x_55 = x_33 + (1 : Int32) →
  (∃ k_56, k_56 < n_36 ∧ I_101 k_56 x_55 hp_54 nx_35)))))))))))))) ∧
  ((x2 = (1 : Int32) →
  (zgR hp_15 (some h0) [5] 9 fun r_64 =>
  (zaI (g.2.1 0) hp_15 r_64 fun a_65 n_66 f_67 => vp_in x1 n_66 ∧ ∀ x_68 : Int32, x_68 = f_67 x1.toNatClampNeg →
  ((x_68 = (-1 : Int32) →
  P_81 hp_15 nx_16) ∧
  (¬ x_68 = (-1 : Int32) →
  P_84 hp_15 nx_16))))) ∧
  (¬ x2 = (1 : Int32) →
  P_84 hp_15 nx_16)))))))))))))))))))))))))))))
set_option maxHeartbeats 40000000 in
theorem met_X5_axis {l : Launch} {g : zG} {d : Nat} {h0 : Nat} {x1 : Int32} {x2 : Int32} {x3 : Int32} {x4 : Int32} {x5 : Int32} {hp : zHp} {nx : Nat} {Post : Int32 → zHp → Nat → Prop} (hw : wp_X5_axis l g d h0 x1 x2 x3 x4 x5 hp nx Post) : zMt l g yX5_axis cX5_axis 7 (some .int) (d + 1) 0 0 [.ref h0, .int x1, .int x2, .int x3, .int x4, .int x5] hp nx (zQi g Post) := by
  refine z_start (by decide) (Nat.le_of_ble_eq_true rfl) ?_
  intro p e s m below meth c hk hr hin hH hz ls hl
  have hx := hk.1.1
  have hb := hk.1.2.1
  have hown := hk.1.2.2.2.1
  have hts := hk.1.2.2.2.2
  have hS : va_S (zAd g) s.heap s.heap [] := va_S.rf
  have hl : lv_has ls 7 [(0, va_rf (some h0)), (1, .int x1), (2, .int x2), (3, .int x3), (4, .int x4), (5, .int x5)] := hl
  unfold wp_X5_axis at hw
  refine lv_iload_n hx hb dX5_axis_0 rfl (lv_at hl 1 rfl) ?_
  refine zr_calli (zr_runS (As := [.int x1]) hk hH hz hS hl.1 hw (va_cwS 1 hts (lw_S q3181 q3182 q162 q3183) rfl rfl rfl (by decide +kernel) (z_room (Nat.le_of_ble_eq_true rfl))) rfl rfl (Nat.le_of_ble_eq_true rfl) dX5_axis_1 ⟨Nat.le_of_ble_eq_true rfl, Nat.le_of_ble_eq_true rfl⟩) hS (fun x_3 hp_1 nx_2 hw H locs hH hz hS => ?_)
  obtain ⟨P_54, hP_54, hw⟩ := hw
  have hJ_54 : ∀ (hp_4 : zHp) (nx_5 : Nat) (H : Heap) (locs : List Loc) (ls : Array Slot), P_54 hp_4 nx_5 → lv_has ls 7 [(0, va_rf (some h0)), (1, .int x1), (2, .int x2), (3, .int x3), (4, .int x4), (5, .int x5)] → zHd g hp_4 H → H.size = nx_5 → va_S (zAd g) s.heap H locs → W p l e (zrm (d + 1) 0 0) s m ([.ref h0, .int x1, .int x2, .int x3, .int x4, .int x5] : List Value).toArray below meth c H locs 0 0 (MQ below (zQi g Post) ([.ref h0, .int x1, .int x2, .int x3, .int x4, .int x5] : List Value).toArray s 0 0 (zAd g)) (F0 m 54 ls []) := by
    intro hp_4 nx_5 H locs ls hw hl hH hz hS
    have hw := hP_54 hp_4 nx_5 hw
    refine lv_bipush (v := (-2 : Int32)) hx hb dX5_axis_54 (by decide) ?_
    exact zr_iret hk hr hH hz hS hw (Nat.le_of_ble_eq_true rfl) (Nat.le_of_ble_eq_true rfl) dX5_axis_56
  refine lv_if_eq (tgt := 54) hx hb dX5_axis_4 (by decide) (fun hc => ?_) (fun hc => ?_)
  · have hw := hw.1 hc
    exact hJ_54 hp_1 nx_2 _ _ _ hw hl hH hz hS
  · have hw := hw.2 hc
    refine lv_iload_n hx hb dX5_axis_7 rfl (lv_at hl 2 rfl) ?_
    refine lv_iconst (v := (0 : Int32)) hx hb dX5_axis_8 (by decide) ?_
    refine lv_iconst (v := (1 : Int32)) hx hb dX5_axis_9 (by decide) ?_
    refine zr_calli (zr_runS (As := [.int x2, .int (0 : Int32), .int (1 : Int32)]) hk hH hz hS hl.1 hw (va_cwS 3 hts (lw_S q2911 q2912 q162 q2913) rfl rfl rfl (by decide +kernel) (z_room (Nat.le_of_ble_eq_true rfl))) rfl rfl (Nat.le_of_ble_eq_true rfl) dX5_axis_10 ⟨Nat.le_of_ble_eq_true rfl, Nat.le_of_ble_eq_true rfl⟩) hS (fun x_8 hp_6 nx_7 hw H locs hH hz hS => ?_)
    refine lv_if_eq (tgt := 54) hx hb dX5_axis_13 (by decide) (fun hc => ?_) (fun hc => ?_)
    · have hw := hw.1 hc
      exact hJ_54 hp_6 nx_7 _ _ _ hw hl hH hz hS
    · have hw := hw.2 hc
      refine lv_iload_n hx hb dX5_axis_16 rfl (lv_at hl 3 rfl) ?_
      refine lv_ldcw hx hb hown (hts _ q3188) dX5_axis_17 ?_
      refine lv_ldcw hx hb hown (hts _ q3189) dX5_axis_20 ?_
      refine zr_calli (zr_runS (As := [.int x3, .int (-80000 : Int32), .int (80000 : Int32)]) hk hH hz hS hl.1 hw (va_cwS 3 hts (lw_S q2911 q2912 q162 q2913) rfl rfl rfl (by decide +kernel) (z_room (Nat.le_of_ble_eq_true rfl))) rfl rfl (Nat.le_of_ble_eq_true rfl) dX5_axis_23 ⟨Nat.le_of_ble_eq_true rfl, Nat.le_of_ble_eq_true rfl⟩) hS (fun x_11 hp_9 nx_10 hw H locs hH hz hS => ?_)
      refine lv_if_eq (tgt := 54) hx hb dX5_axis_26 (by decide) (fun hc => ?_) (fun hc => ?_)
      · have hw := hw.1 hc
        exact hJ_54 hp_9 nx_10 _ _ _ hw hl hH hz hS
      · have hw := hw.2 hc
        refine lv_iload hx hb dX5_axis_29 (lv_at hl 4 rfl) ?_
        refine lv_sipush (v := (-8000 : Int32)) hx hb dX5_axis_31 (by decide) ?_
        refine lv_sipush (v := (8000 : Int32)) hx hb dX5_axis_34 (by decide) ?_
        refine zr_calli (zr_runS (As := [.int x4, .int (-8000 : Int32), .int (8000 : Int32)]) hk hH hz hS hl.1 hw (va_cwS 3 hts (lw_S q2911 q2912 q162 q2913) rfl rfl rfl (by decide +kernel) (z_room (Nat.le_of_ble_eq_true rfl))) rfl rfl (Nat.le_of_ble_eq_true rfl) dX5_axis_37 ⟨Nat.le_of_ble_eq_true rfl, Nat.le_of_ble_eq_true rfl⟩) hS (fun x_14 hp_12 nx_13 hw H locs hH hz hS => ?_)
        refine lv_if_eq (tgt := 54) hx hb dX5_axis_40 (by decide) (fun hc => ?_) (fun hc => ?_)
        · have hw := hw.1 hc
          exact hJ_54 hp_12 nx_13 _ _ _ hw hl hH hz hS
        · have hw := hw.2 hc
          refine lv_iload hx hb dX5_axis_43 (lv_at hl 5 rfl) ?_
          refine lv_iconst (v := (1 : Int32)) hx hb dX5_axis_45 (by decide) ?_
          refine lv_bipush (v := (8 : Int32)) hx hb dX5_axis_46 (by decide) ?_
          refine zr_calli (zr_runS (As := [.int x5, .int (1 : Int32), .int (8 : Int32)]) hk hH hz hS hl.1 hw (va_cwS 3 hts (lw_S q2911 q2912 q162 q2913) rfl rfl rfl (by decide +kernel) (z_room (Nat.le_of_ble_eq_true rfl))) rfl rfl (Nat.le_of_ble_eq_true rfl) dX5_axis_48 ⟨Nat.le_of_ble_eq_true rfl, Nat.le_of_ble_eq_true rfl⟩) hS (fun x_17 hp_15 nx_16 hw H locs hH hz hS => ?_)
          refine lv_if_ne (tgt := 57) hx hb dX5_axis_51 (by decide) (fun hc => ?_) (fun hc => ?_)
          · have hw := hw.2 hc
            refine zr_aload_n (r := some h0) hx hb dX5_axis_57 rfl (lv_at hl 0 rfl) ?_
            obtain ⟨a_18, ci_19, fs_20, r_21, er, he, hc, hv, hw⟩ := zgR_e hw
            refine zw_get hk hH er he hv (fk_X5_34 hc) dX5_axis_58 ?_
            refine lv_iload_n hx hb dX5_axis_61 rfl (lv_at hl 1 rfl) ?_
            obtain ⟨a_22, n_23, f_24, er, he, hi, hw⟩ := zaI_e hw
            have hw := hw _ rfl
            refine zw_zald hk hH er he hi dX5_axis_62 ?_
            generalize f_24 x1.toNatClampNeg = x_25 at hw ⊢
            obtain ⟨P_81, hP_81, hw⟩ := hw
            have hJ_81 : ∀ (hp_26 : zHp) (nx_27 : Nat) (H : Heap) (locs : List Loc) (ls : Array Slot), P_81 hp_26 nx_27 → lv_has ls 7 [(0, va_rf (some h0)), (1, .int x1), (2, .int x2), (3, .int x3), (4, .int x4), (5, .int x5)] → zHd g hp_26 H → H.size = nx_27 → va_S (zAd g) s.heap H locs → W p l e (zrm (d + 1) 0 0) s m ([.ref h0, .int x1, .int x2, .int x3, .int x4, .int x5] : List Value).toArray below meth c H locs 0 0 (MQ below (zQi g Post) ([.ref h0, .int x1, .int x2, .int x3, .int x4, .int x5] : List Value).toArray s 0 0 (zAd g)) (F0 m 81 ls []) := by
              intro hp_26 nx_27 H locs ls hw hl hH hz hS
              have hw := hP_81 hp_26 nx_27 hw
              refine lv_bipush (v := (-3 : Int32)) hx hb dX5_axis_81 (by decide) ?_
              exact zr_iret hk hr hH hz hS hw (Nat.le_of_ble_eq_true rfl) (Nat.le_of_ble_eq_true rfl) dX5_axis_83
            refine lv_if_eq (tgt := 81) hx hb dX5_axis_63 (by decide) (fun hc => ?_) (fun hc => ?_)
            · have hw := hw.1 hc
              exact hJ_81 hp_15 nx_16 _ _ _ hw hl hH hz hS
            · have hw := hw.2 hc
              refine lv_iload_n hx hb dX5_axis_66 rfl (lv_at hl 2 rfl) ?_
              refine lv_iconst (v := (1 : Int32)) hx hb dX5_axis_67 (by decide) ?_
              obtain ⟨P_84, hP_84, hw⟩ := hw
              have hJ_84 : ∀ (hp_28 : zHp) (nx_29 : Nat) (H : Heap) (locs : List Loc) (ls : Array Slot), P_84 hp_28 nx_29 → lv_has ls 7 [(0, va_rf (some h0)), (1, .int x1), (2, .int x2), (3, .int x3), (4, .int x4), (5, .int x5)] → zHd g hp_28 H → H.size = nx_29 → va_S (zAd g) s.heap H locs → W p l e (zrm (d + 1) 0 0) s m ([.ref h0, .int x1, .int x2, .int x3, .int x4, .int x5] : List Value).toArray below meth c H locs 0 0 (MQ below (zQi g Post) ([.ref h0, .int x1, .int x2, .int x3, .int x4, .int x5] : List Value).toArray s 0 0 (zAd g)) (F0 m 84 ls []) := by
                intro hp_28 nx_29 H locs ls hw hl hH hz hS
                have hw := hP_84 hp_28 nx_29 hw
                refine zr_aload_n (r := some h0) hx hb dX5_axis_84 rfl (lv_at hl 0 rfl) ?_
                refine lv_iload_n hx hb dX5_axis_85 rfl (lv_at hl 1 rfl) ?_
                refine lv_iload_n hx hb dX5_axis_86 rfl (lv_at hl 2 rfl) ?_
                refine lv_iload hx hb dX5_axis_87 (lv_at hl 5 rfl) ?_
                obtain ⟨a_58, ci_59, fs_60, er, he, hc, hw⟩ := zo_e hw
                obtain rfl := List.mem_singleton.mp hc
                refine zr_calli (zw_runV (As := [.int x1, .int x2, .int x5]) hk hH hz hS hl.1 er hw (cwV 3 hts (lw_V q3190 q3192 qs114 q162 q3193) rfl rfl rfl (by decide +kernel) (z_room (Nat.le_of_ble_eq_true rfl))) he rfl rfl rfl (Nat.le_of_ble_eq_true rfl) dX5_axis_89 ⟨Nat.le_of_ble_eq_true rfl, Nat.le_of_ble_eq_true rfl⟩) hS (fun x_32 hp_30 nx_31 hw H locs hH hz hS => ?_)
                refine lv_if_ne (tgt := 98) hx hb dX5_axis_92 (by decide) (fun hc => ?_) (fun hc => ?_)
                · have hw := hw.2 hc
                  refine lv_iconst (v := (0 : Int32)) hx hb dX5_axis_98 (by decide) ?_
                  refine lv_istore (lv' := [(6, .int (0 : Int32)), (0, va_rf (some h0)), (1, .int x1), (2, .int x2), (3, .int x3), (4, .int x4), (5, .int x5)]) hx hb dX5_axis_99 hl (by decide) (by first | rfl | simp [List.filter_cons, z_cat, z_catI, z_catJ, z_catF, z_catD]) (fun ls hl => ?_)
                  obtain ⟨I_101, ⟨n_57, hI⟩, hB_101⟩ := hw
                  have hL_101 : ∀ (n_36 : Nat) (x_33 : Int32) (hp_34 : zHp) (nx_35 : Nat) (H : Heap) (locs : List Loc) (ls : Array Slot), I_101 n_36 x_33 hp_34 nx_35 → lv_has ls 7 [(0, va_rf (some h0)), (1, .int x1), (2, .int x2), (3, .int x3), (4, .int x4), (5, .int x5), (6, .int x_33)] → zHd g hp_34 H → H.size = nx_35 → va_S (zAd g) s.heap H locs → W p l e (zrm (d + 1) 0 0) s m ([.ref h0, .int x1, .int x2, .int x3, .int x4, .int x5] : List Value).toArray below meth c H locs 0 0 (MQ below (zQi g Post) ([.ref h0, .int x1, .int x2, .int x3, .int x4, .int x5] : List Value).toArray s 0 0 (zAd g)) (F0 m 101 ls []) := by
                    intro n_36
                    induction n_36 using Nat.strongRecOn with
                    | _ n_36 ih_101 =>
                      intro x_33 hp_34 nx_35 H locs ls hw hl hH hz hS
                      have hw := hB_101 n_36 x_33 hp_34 nx_35 hw
                      refine lv_iload hx hb dX5_axis_101 (lv_at hl 6 rfl) ?_
                      refine lv_iload hx hb dX5_axis_103 (lv_at hl 5 rfl) ?_
                      refine lv_icmp_ge (tgt := 139) hx hb dX5_axis_105 (by decide) (fun hc => ?_) (fun hc => ?_)
                      · have hw := hw.1 hc
                        refine zr_aload_n (r := some h0) hx hb dX5_axis_139 rfl (lv_at hl 0 rfl) ?_
                        refine lv_iload_n hx hb dX5_axis_140 rfl (lv_at hl 1 rfl) ?_
                        obtain ⟨a_40, ci_41, fs_42, er, he, hc, hw⟩ := zo_e hw
                        obtain rfl := List.mem_singleton.mp hc
                        refine zr_calli (zw_runV (As := [.int x1]) hk hH hz hS hl.1 er hw (cwV 1 hts (lw_V q2986 q2988 qs80 q162 q2989) rfl rfl rfl (by decide +kernel) (z_room (Nat.le_of_ble_eq_true rfl))) he rfl rfl rfl (Nat.le_of_ble_eq_true rfl) dX5_axis_141 ⟨Nat.le_of_ble_eq_true rfl, Nat.le_of_ble_eq_true rfl⟩) hS (fun x_39 hp_37 nx_38 hw H locs hH hz hS => ?_)
                        exact zr_iret hk hr hH hz hS hw (Nat.le_of_ble_eq_true rfl) (Nat.le_of_ble_eq_true rfl) dX5_axis_144
                      · have hw := hw.2 hc
                        refine zr_aload_n (r := some h0) hx hb dX5_axis_108 rfl (lv_at hl 0 rfl) ?_
                        obtain ⟨a_43, ci_44, fs_45, r_46, er, he, hc, hv, hw⟩ := zgR_e hw
                        refine zw_get hk hH er he hv (fk_X5_49 hc) dX5_axis_109 ?_
                        refine lv_iconst (v := (2 : Int32)) hx hb dX5_axis_112 (by decide) ?_
                        refine lv_iload_n hx hb dX5_axis_113 rfl (lv_at hl 1 rfl) ?_
                        refine lv_imul hx hb dX5_axis_114 ?_
                        refine lv_iload_n hx hb dX5_axis_115 rfl (lv_at hl 2 rfl) ?_
                        refine lv_iadd hx hb dX5_axis_116 ?_
                        obtain ⟨a_47, n_48, f_49, er, he, hi, hw⟩ := zaR_e hw
                        have hw := hw _ rfl
                        refine zw_aald hk hH 15 er he rfl rfl hi dX5_axis_117 ?_
                        generalize f_49 (((2 : Int32) * x1) + x2).toNatClampNeg = r_50 at hw ⊢
                        refine lv_iload hx hb dX5_axis_118 (lv_at hl 6 rfl) ?_
                        refine lv_iload_n hx hb dX5_axis_120 rfl (lv_at hl 3 rfl) ?_
                        refine lv_iload hx hb dX5_axis_121 (lv_at hl 6 rfl) ?_
                        refine lv_iload hx hb dX5_axis_123 (lv_at hl 4 rfl) ?_
                        refine lv_imul hx hb dX5_axis_125 ?_
                        refine lv_iadd hx hb dX5_axis_126 ?_
                        refine lv_i2d hx hb dX5_axis_127 ?_
                        refine lv_ldc2d hx hb hown (hts _ q2923) dX5_axis_128 ?_
                        obtain ⟨hne, hw⟩ := hw
                        refine lv_ddiv hx hb dX5_axis_131 hne ?_
                        obtain ⟨a_51, n_52, f_53, er, he, hi, hA, hw⟩ := zaD_e hw
                        obtain ⟨hp_54, eh⟩ : ∃ y : zHp, y = va_up hp_34 a_51 (some (.inl (g.2.1 1, n_52, .inr (.inr (.inr (.inl (va_up f_53 x_33.toNatClampNeg (FP.ddiv (FP.i2d (x3 + (x_33 * x4))) (4620693217682128896 : UInt64))))))))) := ⟨_, rfl⟩
                        have hw := hw hp_54 eh
                        refine zw_dast hk hH hz hS er he hi hA eh dX5_axis_132 (fun H locs hH hz hS => ?_)
                        obtain ⟨x_55, ex_55⟩ : ∃ y : Int32, y = x_33 + (1 : Int32) := ⟨_, rfl⟩
                        have hw := hw x_55 ex_55
                        refine lv_iinc (v := x_55) (lv' := [(6, .int x_55), (0, va_rf (some h0)), (1, .int x1), (2, .int x2), (3, .int x3), (4, .int x4), (5, .int x5)]) hx hb dX5_axis_133 hl (k := 6) rfl (by rw [ex_55]; rfl) (by decide) (by first | rfl | simp [List.filter_cons, z_cat, z_catI, z_catJ, z_catF, z_catD]) (fun ls hl => ?_)
                        refine lv_goto (tgt := 101) hx hb dX5_axis_136 (by decide) ?_
                        obtain ⟨k_56, hlt, hw⟩ := hw
                        exact ih_101 k_56 hlt x_55 hp_54 nx_35 _ _ _ hw (lv_sub hl [1, 2, 3, 4, 5, 6, 0] rfl) hH hz hS
                  exact hL_101 n_57 (0 : Int32) hp_30 nx_31 _ _ _ hI (lv_sub hl [1, 2, 3, 4, 5, 6, 0] rfl) hH hz hS
                · have hw := hw.1 hc
                  refine lv_bipush (v := (-4 : Int32)) hx hb dX5_axis_95 (by decide) ?_
                  exact zr_iret hk hr hH hz hS hw (Nat.le_of_ble_eq_true rfl) (Nat.le_of_ble_eq_true rfl) dX5_axis_97
              refine lv_icmp_ne (tgt := 84) hx hb dX5_axis_68 (by decide) (fun hc => ?_) (fun hc => ?_)
              · have hw := hw.2 hc
                exact hJ_84 hp_15 nx_16 _ _ _ hw hl hH hz hS
              · have hw := hw.1 hc
                refine zr_aload_n (r := some h0) hx hb dX5_axis_71 rfl (lv_at hl 0 rfl) ?_
                obtain ⟨a_61, ci_62, fs_63, r_64, er, he, hc, hv, hw⟩ := zgR_e hw
                refine zw_get hk hH er he hv (fk_X5_43 hc) dX5_axis_72 ?_
                refine lv_iload_n hx hb dX5_axis_75 rfl (lv_at hl 1 rfl) ?_
                obtain ⟨a_65, n_66, f_67, er, he, hi, hw⟩ := zaI_e hw
                have hw := hw _ rfl
                refine zw_iald hk hH er he hi dX5_axis_76 ?_
                generalize f_67 x1.toNatClampNeg = x_68 at hw ⊢
                refine lv_iconst (v := (-1 : Int32)) hx hb dX5_axis_77 (by decide) ?_
                refine lv_icmp_ne (tgt := 84) hx hb dX5_axis_78 (by decide) (fun hc => ?_) (fun hc => ?_)
                · have hw := hw.2 hc
                  exact hJ_84 hp_15 nx_16 _ _ _ hw hl hH hz hS
                · have hw := hw.1 hc
                  exact hJ_81 hp_15 nx_16 _ _ _ hw hl hH hz hS
          · have hw := hw.1 hc
            exact hJ_54 hp_15 nx_16 _ _ _ hw hl hH hz hS
def wp_X5_hasRoom (l : Launch) (g : zG) (d : Nat) (h0 : Nat) (x1 : Int32) (x2 : Int32) (x3 : Int32) (hp : zHp) (nx : Nat) (Post : Int32 → zHp → Nat → Prop) : Prop :=
  (∀ x_1 : Int32, x_1 = ((2 : Int32) * x1) + x2 →
  (zgR hp (some h0) [5] 10 fun r_5 =>
  (zaI (g.2.1 0) hp r_5 fun a_6 n_7 f_8 => vp_in x_1 n_7 ∧ ∀ x_9 : Int32, x_9 = f_8 x_1.toNatClampNeg →
  (zgR hp (some h0) [5] 10 fun r_13 =>
  (zaI (g.2.1 0) hp r_13 fun a_14 n_15 f_16 => vp_in x_1 n_15 ∧ zB g ≤ a_14 ∧ ∀ hp_17 : zHp, hp_17 = va_up hp a_14 (some (.inl (g.2.1 0, n_15, .inl (va_up f_16 x_1.toNatClampNeg x3)))) →
  (zo hp_17 (some h0) [5] fun a_39 ci_40 fs_41 => zMt l g yX5_isTooMuch cX5_isTooMuch 3 (some .boolean) d 0 0 (.ref a_39 :: []) hp_17 nx (zQi g fun x_20 hp_18 nx_19 =>
  (∃ P_36 : Int32 → Int32 → Int32 → zHp → Nat → Prop, (∀ (x_21 : Int32) (x_22 : Int32) (x_23 : Int32) (hp_24 : zHp) (nx_25 : Nat), P_36 x_21 x_22 x_23 hp_24 nx_25 →
  (∃ P_52 : Int32 → Int32 → Int32 → zHp → Nat → Prop, (∀ (x_26 : Int32) (x_27 : Int32) (x_28 : Int32) (hp_29 : zHp) (nx_30 : Nat), P_52 x_26 x_27 x_28 hp_29 nx_30 →
  (((x_28 = 0 ∨ x_28 = 1) ∧ Post x_28 hp_29 nx_30))) ∧
  ((x_23 = 0 →
  (zgR hp_24 (some h0) [5] 10 fun r_34 =>
  (zaI (g.2.1 0) hp_24 r_34 fun a_35 n_36 f_37 => vp_in x_21 n_36 ∧ zB g ≤ a_35 ∧ ∀ hp_38 : zHp, hp_38 = va_up hp_24 a_35 (some (.inl (g.2.1 0, n_36, .inl (va_up f_37 x_21.toNatClampNeg x_22)))) →
  P_52 x_21 x_22 x_23 hp_38 nx_25))) ∧
  (¬ x_23 = 0 →
  P_52 x_21 x_22 x_23 hp_24 nx_25)))) ∧
  ((x_20 = 0 →
  P_36 x_1 x_9 (1 : Int32) hp_18 nx_19) ∧
  (¬ x_20 = 0 →
  P_36 x_1 x_9 (0 : Int32) hp_18 nx_19))))))))))
set_option maxHeartbeats 40000000 in
theorem met_X5_hasRoom {l : Launch} {g : zG} {d : Nat} {h0 : Nat} {x1 : Int32} {x2 : Int32} {x3 : Int32} {hp : zHp} {nx : Nat} {Post : Int32 → zHp → Nat → Prop} (hw : wp_X5_hasRoom l g d h0 x1 x2 x3 hp nx Post) : zMt l g yX5_hasRoom cX5_hasRoom 7 (some .boolean) (d + 1) 0 0 [.ref h0, .int x1, .int x2, .int x3] hp nx (zQi g Post) := by
  refine z_start (by decide) (Nat.le_of_ble_eq_true rfl) ?_
  intro p e s m below meth c hk hr hin hH hz ls hl
  have hx := hk.1.1
  have hb := hk.1.2.1
  have hown := hk.1.2.2.2.1
  have hts := hk.1.2.2.2.2
  have hS : va_S (zAd g) s.heap s.heap [] := va_S.rf
  have hl : lv_has ls 7 [(0, va_rf (some h0)), (1, .int x1), (2, .int x2), (3, .int x3)] := hl
  unfold wp_X5_hasRoom at hw
  refine lv_iconst (v := (2 : Int32)) hx hb dX5_hasRoom_0 (by decide) ?_
  refine lv_iload_n hx hb dX5_hasRoom_1 rfl (lv_at hl 1 rfl) ?_
  refine lv_imul hx hb dX5_hasRoom_2 ?_
  refine lv_iload_n hx hb dX5_hasRoom_3 rfl (lv_at hl 2 rfl) ?_
  refine lv_iadd hx hb dX5_hasRoom_4 ?_
  refine lv_topi (fun x_1 ex_1 => ?_)
  have hw := hw x_1 ex_1
  refine lv_istore (lv' := [(4, .int x_1), (0, va_rf (some h0)), (1, .int x1), (2, .int x2), (3, .int x3)]) hx hb dX5_hasRoom_5 hl (by decide) (by first | rfl | simp [List.filter_cons, z_cat, z_catI, z_catJ, z_catF, z_catD]) (fun ls hl => ?_)
  refine zr_aload_n (r := some h0) hx hb dX5_hasRoom_7 rfl (lv_at hl 1 rfl) ?_
  obtain ⟨a_2, ci_3, fs_4, r_5, er, he, hc, hv, hw⟩ := zgR_e hw
  refine zw_get hk hH er he hv (fk_X5_46 hc) dX5_hasRoom_8 ?_
  refine lv_iload hx hb dX5_hasRoom_11 (lv_at hl 0 rfl) ?_
  obtain ⟨a_6, n_7, f_8, er, he, hi, hw⟩ := zaI_e hw
  have hw := hw _ rfl
  refine zw_iald hk hH er he hi dX5_hasRoom_13 ?_
  generalize f_8 x_1.toNatClampNeg = x_9 at hw ⊢
  refine lv_istore (lv' := [(5, .int x_9), (4, .int x_1), (0, va_rf (some h0)), (1, .int x1), (2, .int x2), (3, .int x3)]) hx hb dX5_hasRoom_14 hl (by decide) (by first | rfl | simp [List.filter_cons, z_cat, z_catI, z_catJ, z_catF, z_catD]) (fun ls hl => ?_)
  refine zr_aload_n (r := some h0) hx hb dX5_hasRoom_16 rfl (lv_at hl 2 rfl) ?_
  obtain ⟨a_10, ci_11, fs_12, r_13, er, he, hc, hv, hw⟩ := zgR_e hw
  refine zw_get hk hH er he hv (fk_X5_46 hc) dX5_hasRoom_17 ?_
  refine lv_iload hx hb dX5_hasRoom_20 (lv_at hl 1 rfl) ?_
  refine lv_iload_n hx hb dX5_hasRoom_22 rfl (lv_at hl 5 rfl) ?_
  obtain ⟨a_14, n_15, f_16, er, he, hi, hA, hw⟩ := zaI_e hw
  obtain ⟨hp_17, eh⟩ : ∃ y : zHp, y = va_up hp a_14 (some (.inl (g.2.1 0, n_15, .inl (va_up f_16 x_1.toNatClampNeg x3)))) := ⟨_, rfl⟩
  have hw := hw hp_17 eh
  refine zw_iast hk hH hz hS er he hi hA eh dX5_hasRoom_23 (fun H locs hH hz hS => ?_)
  refine zr_aload_n (r := some h0) hx hb dX5_hasRoom_24 rfl (lv_at hl 2 rfl) ?_
  obtain ⟨a_39, ci_40, fs_41, er, he, hc, hw⟩ := zo_e hw
  obtain rfl := List.mem_singleton.mp hc
  refine zr_calli (zw_runV (As := []) hk hH hz hS hl.1 er hw (cwV 0 hts (lw_V q3172 q3174 qs113 q162 q3175) rfl rfl rfl (by decide +kernel) (z_room (Nat.le_of_ble_eq_true rfl))) he rfl rfl rfl (Nat.le_of_ble_eq_true rfl) dX5_hasRoom_25 ⟨Nat.le_of_ble_eq_true rfl, Nat.le_of_ble_eq_true rfl⟩) hS (fun x_20 hp_18 nx_19 hw H locs hH hz hS => ?_)
  obtain ⟨P_36, hP_36, hw⟩ := hw
  have hJ_36 : ∀ (x_21 : Int32) (x_22 : Int32) (x_23 : Int32) (hp_24 : zHp) (nx_25 : Nat) (H : Heap) (locs : List Loc) (ls : Array Slot), P_36 x_21 x_22 x_23 hp_24 nx_25 → lv_has ls 7 [(0, va_rf (some h0)), (1, .int x1), (2, .int x2), (3, .int x3), (4, .int x_21), (5, .int x_22)] → zHd g hp_24 H → H.size = nx_25 → va_S (zAd g) s.heap H locs → W p l e (zrm (d + 1) 0 0) s m ([.ref h0, .int x1, .int x2, .int x3] : List Value).toArray below meth c H locs 0 0 (MQ below (zQi g Post) ([.ref h0, .int x1, .int x2, .int x3] : List Value).toArray s 0 0 (zAd g)) (F0 m 36 ls [.int x_23]) := by
    intro x_21 x_22 x_23 hp_24 nx_25 H locs ls hw hl hH hz hS
    have hw := hP_36 x_21 x_22 x_23 hp_24 nx_25 hw
    refine lv_istore (lv' := [(6, .int x_23), (0, va_rf (some h0)), (1, .int x1), (2, .int x2), (3, .int x3), (4, .int x_21), (5, .int x_22)]) hx hb dX5_hasRoom_36 hl (by decide) (by first | rfl | simp [List.filter_cons, z_cat, z_catI, z_catJ, z_catF, z_catD]) (fun ls hl => ?_)
    refine lv_iload hx hb dX5_hasRoom_38 (lv_at hl 0 rfl) ?_
    obtain ⟨P_52, hP_52, hw⟩ := hw
    have hJ_52 : ∀ (x_26 : Int32) (x_27 : Int32) (x_28 : Int32) (hp_29 : zHp) (nx_30 : Nat) (H : Heap) (locs : List Loc) (ls : Array Slot), P_52 x_26 x_27 x_28 hp_29 nx_30 → lv_has ls 7 [(0, va_rf (some h0)), (1, .int x1), (2, .int x2), (3, .int x3), (4, .int x_26), (5, .int x_27), (6, .int x_28)] → zHd g hp_29 H → H.size = nx_30 → va_S (zAd g) s.heap H locs → W p l e (zrm (d + 1) 0 0) s m ([.ref h0, .int x1, .int x2, .int x3] : List Value).toArray below meth c H locs 0 0 (MQ below (zQi g Post) ([.ref h0, .int x1, .int x2, .int x3] : List Value).toArray s 0 0 (zAd g)) (F0 m 52 ls []) := by
      intro x_26 x_27 x_28 hp_29 nx_30 H locs ls hw hl hH hz hS
      have hw := hP_52 x_26 x_27 x_28 hp_29 nx_30 hw
      refine lv_iload hx hb dX5_hasRoom_52 (lv_at hl 6 rfl) ?_
      exact zr_zret hk hr hH hz hS hw.1 hw.2 (Nat.le_of_ble_eq_true rfl) (Nat.le_of_ble_eq_true rfl) dX5_hasRoom_54
    refine lv_if_ne (tgt := 52) hx hb dX5_hasRoom_40 (by decide) (fun hc => ?_) (fun hc => ?_)
    · have hw := hw.2 hc
      exact hJ_52 x_21 x_22 x_23 hp_24 nx_25 _ _ _ hw (lv_sub hl [1, 2, 3, 4, 5, 6, 0] rfl) hH hz hS
    · have hw := hw.1 hc
      refine zr_aload_n (r := some h0) hx hb dX5_hasRoom_43 rfl (lv_at hl 1 rfl) ?_
      obtain ⟨a_31, ci_32, fs_33, r_34, er, he, hc, hv, hw⟩ := zgR_e hw
      refine zw_get hk hH er he hv (fk_X5_46 hc) dX5_hasRoom_44 ?_
      refine lv_iload hx hb dX5_hasRoom_47 (lv_at hl 5 rfl) ?_
      refine lv_iload hx hb dX5_hasRoom_49 (lv_at hl 6 rfl) ?_
      obtain ⟨a_35, n_36, f_37, er, he, hi, hA, hw⟩ := zaI_e hw
      obtain ⟨hp_38, eh⟩ : ∃ y : zHp, y = va_up hp_24 a_35 (some (.inl (g.2.1 0, n_36, .inl (va_up f_37 x_21.toNatClampNeg x_22)))) := ⟨_, rfl⟩
      have hw := hw hp_38 eh
      refine zw_iast hk hH hz hS er he hi hA eh dX5_hasRoom_51 (fun H locs hH hz hS => ?_)
      exact hJ_52 x_21 x_22 x_23 hp_38 nx_25 _ _ _ hw (lv_sub hl [1, 2, 3, 4, 5, 6, 0] rfl) hH hz hS
  refine lv_if_ne (tgt := 35) hx hb dX5_hasRoom_28 (by decide) (fun hc => ?_) (fun hc => ?_)
  · have hw := hw.2 hc
    refine lv_iconst (v := (0 : Int32)) hx hb dX5_hasRoom_35 (by decide) ?_
    exact hJ_36 x_1 x_9 (0 : Int32) hp_18 nx_19 _ _ _ hw (lv_sub hl [2, 3, 4, 5, 1, 0] rfl) hH hz hS
  · have hw := hw.1 hc
    refine lv_iconst (v := (1 : Int32)) hx hb dX5_hasRoom_31 (by decide) ?_
    refine lv_goto (tgt := 36) hx hb dX5_hasRoom_32 (by decide) ?_
    exact hJ_36 x_1 x_9 (1 : Int32) hp_18 nx_19 _ _ _ hw (lv_sub hl [2, 3, 4, 5, 1, 0] rfl) hH hz hS
theorem fk_X5_165 {ci : Nat} (h : ci ∈ [5]) : zFk "WhatIfSheetModel" 165 ci 70 := by
  simp only [List.mem_cons, List.not_mem_nil, or_false] at h
  rcases h with rfl
  · exact ⟨RX5, TX5, 76, rfl, by decide, q2744⟩
theorem fk_X5_168 {ci : Nat} (h : ci ∈ [5]) : zFk "WhatIfSheetModel" 168 ci 71 := by
  simp only [List.mem_cons, List.not_mem_nil, or_false] at h
  rcases h with rfl
  · exact ⟨RX5, TX5, 76, rfl, by decide, q2745⟩
theorem fk_X5_171 {ci : Nat} (h : ci ∈ [5]) : zFk "WhatIfSheetModel" 171 ci 72 := by
  simp only [List.mem_cons, List.not_mem_nil, or_false] at h
  rcases h with rfl
  · exact ⟨RX5, TX5, 76, rfl, by decide, q2746⟩
theorem fk_X5_174 {ci : Nat} (h : ci ∈ [5]) : zFk "WhatIfSheetModel" 174 ci 73 := by
  simp only [List.mem_cons, List.not_mem_nil, or_false] at h
  rcases h with rfl
  · exact ⟨RX5, TX5, 76, rfl, by decide, q2747⟩
def wp_X5_axisBy (l : Launch) (g : zG) (d : Nat) (h0 : Nat) (x1 : Int32) (x2 : Int32) (x3 : Int32) (x4 : Int32) (x5 : Int32) (hp : zHp) (nx : Nat) (Post : Int32 → zHp → Nat → Prop) : Prop :=
  (zMt l g yX5_isTable cX5_isTable 1 (some .boolean) d 0 0 [.int x1] hp nx (zQi g fun x_3 hp_1 nx_2 =>
  (∃ P_34 : zHp → Nat → Prop, (∀ (hp_4 : zHp) (nx_5 : Nat), P_34 hp_4 nx_5 →
  (Post (-2 : Int32) hp_4 nx_5)) ∧
  ((x_3 = 0 →
  P_34 hp_1 nx_2) ∧
  (¬ x_3 = 0 →
  (zMt l g yX5_in cX5_in 3 (some .boolean) d 0 0 [.int x2, .int (0 : Int32), .int (1 : Int32)] hp_1 nx_2 (zQi g fun x_8 hp_6 nx_7 =>
  ((x_8 = 0 →
  P_34 hp_6 nx_7) ∧
  (¬ x_8 = 0 →
  (zMt l g yX5_isRow cX5_isRow 1 (some .boolean) d 0 0 [.int x3] hp_6 nx_7 (zQi g fun x_11 hp_9 nx_10 =>
  ((x_11 = 0 →
  P_34 hp_9 nx_10) ∧
  (¬ x_11 = 0 →
  (zMt l g yX5_in cX5_in 3 (some .boolean) d 0 0 [.int x5, .int (1 : Int32), .int (8 : Int32)] hp_9 nx_10 (zQi g fun x_14 hp_12 nx_13 =>
  ((x_14 = 0 →
  P_34 hp_12 nx_13) ∧
  (¬ x_14 = 0 →
  (zgR hp_12 (some h0) [5] 6 fun r_18 =>
  (zaI (g.2.1 3) hp_12 r_18 fun a_19 n_20 f_21 => vp_in x1 n_20 ∧ ∀ x_22 : Int32, x_22 = f_21 x1.toNatClampNeg →
  (∃ P_61 : zHp → Nat → Prop, (∀ (hp_23 : zHp) (nx_24 : Nat), P_61 hp_23 nx_24 →
  (Post (-3 : Int32) hp_23 nx_24)) ∧
  ((x_22 = 0 →
  P_61 hp_12 nx_13) ∧
  (¬ x_22 = 0 →
  (∃ P_64 : zHp → Nat → Prop, (∀ (hp_25 : zHp) (nx_26 : Nat), P_64 hp_25 nx_26 →
  (zgR hp_25 (some h0) [5] 70 fun r_30 =>
  (zaI (g.2.1 0) hp_25 r_30 fun a_31 n_32 f_33 => vp_in x3 n_32 ∧ ∀ x_34 : Int32, x_34 = f_33 x3.toNatClampNeg →
  ((0 ≤ x_34 →
  (zgR hp_25 (some h0) [5] 70 fun r_38 =>
  (zaI (g.2.1 0) hp_25 r_38 fun a_39 n_40 f_41 => vp_in x3 n_40 ∧ ∀ x_42 : Int32, x_42 = f_41 x3.toNatClampNeg →
  ((x_42 = (3 : Int32) →
  (∃ P_108 : zHp → Nat → Prop, (∀ (hp_43 : zHp) (nx_44 : Nat), P_108 hp_43 nx_44 →
  (Post (-12 : Int32) hp_43 nx_44)) ∧
  ((x4 < 0 →
  P_108 hp_25 nx_26) ∧
  (¬ x4 < 0 →
  (zgR hp_25 (some h0) [5] 71 fun r_48 =>
  (zaI (g.2.1 0) hp_25 r_48 fun a_49 n_50 f_51 => vp_in x3 n_50 ∧ ∀ x_52 : Int32, x_52 = f_51 x3.toNatClampNeg →
  ((x4 ≤ (x_52 - x5) →
  (∃ I_114 : Nat → Int32 → zHp → Nat → Prop, (∃ n_114, I_114 n_114 (0 : Int32) hp_25 nx_26) ∧ ∀ (n_56 : Nat) (x_53 : Int32) (hp_54 : zHp) (nx_55 : Nat), I_114 n_56 x_53 hp_54 nx_55 →
  ((x5 ≤ x_53 →
  (zo hp_54 (some h0) [5] fun a_97 ci_98 fs_99 => zMt l g yX5_hasRoom cX5_hasRoom 7 (some .boolean) d 0 0 (.ref a_97 :: [.int x1, .int x2, .int x5]) hp_54 nx_55 (zQi g fun x_59 hp_57 nx_58 =>
  ((x_59 = 0 →
  (Post (-4 : Int32) hp_57 nx_58)) ∧
  (¬ x_59 = 0 →
  (∃ I_162 : Nat → Int32 → zHp → Nat → Prop, (∃ n_96, I_162 n_96 (0 : Int32) hp_57 nx_58) ∧ ∀ (n_63 : Nat) (x_60 : Int32) (hp_61 : zHp) (nx_62 : Nat), I_162 n_63 x_60 hp_61 nx_62 →
  ((x5 ≤ x_60 →
  (zo hp_61 (some h0) [5] fun a_67 ci_68 fs_69 => zMt l g yX5_cases cX5_cases 2 (some .int) d 0 0 (.ref a_67 :: [.int x1]) hp_61 nx_62 (zQi g fun x_66 hp_64 nx_65 =>
  (Post x_66 hp_64 nx_65)))) ∧
  (¬ x5 ≤ x_60 →
  (zgR hp_61 (some h0) [5] 11 fun r_73 =>
  (zaR (g.2.1 15) hp_61 r_73 fun a_74 n_75 f_76 => vp_in (((2 : Int32) * x1) + x2) n_75 ∧ ∀ r_77 : Option Nat, r_77 = f_76 (((2 : Int32) * x1) + x2).toNatClampNeg →
  (zgR hp_61 (some h0) [5] 72 fun r_81 =>
  (zaR (g.2.1 15) hp_61 r_81 fun a_82 n_83 f_84 => vp_in x3 n_83 ∧ ∀ r_85 : Option Nat, r_85 = f_84 x3.toNatClampNeg →
  (zaD (g.2.1 1) hp_61 r_85 fun a_86 n_87 f_88 => vp_in (x4 + x_60) n_87 ∧ ∀ x_89 : UInt64, x_89 = f_88 (x4 + x_60).toNatClampNeg →
  (zaD (g.2.1 1) hp_61 r_77 fun a_90 n_91 f_92 => vp_in x_60 n_91 ∧ zB g ≤ a_90 ∧ ∀ hp_93 : zHp, hp_93 = va_up hp_61 a_90 (some (.inl (g.2.1 1, n_91, .inr (.inr (.inr (.inl (va_up f_92 x_60.toNatClampNeg x_89))))))) →
  (∀ x_94 : Int32, x_94 = x_60 + (1 : Int32) →
  (∃ k_95, k_95 < n_63 ∧ I_162 k_95 x_94 hp_93 nx_62)))))))))))))))) ∧
  (¬ x5 ≤ x_53 →
  (zgR hp_54 (some h0) [5] 73 fun r_103 =>
  (zaR (g.2.1 16) hp_54 r_103 fun a_104 n_105 f_106 => vp_in x3 n_105 ∧ ∀ r_107 : Option Nat, r_107 = f_106 x3.toNatClampNeg →
  (zaI (g.2.1 3) hp_54 r_107 fun a_108 n_109 f_110 => vp_in (x4 + x_53) n_109 ∧ ∀ x_111 : Int32, x_111 = f_110 (x4 + x_53).toNatClampNeg →
  ((x_111 = 0 →
  (∀ x_112 : Int32, x_112 = x_53 + (1 : Int32) →
  (∃ k_113, k_113 < n_56 ∧ I_114 k_113 x_112 hp_54 nx_55))) ∧
  (¬ x_111 = 0 →
  (Post (-3 : Int32) hp_54 nx_55)))))))))) ∧
  (¬ x4 ≤ (x_52 - x5) →
  P_108 hp_25 nx_26)))))))) ∧
  (¬ x_42 = (3 : Int32) →
  (Post (-13 : Int32) hp_25 nx_26)))))) ∧
  (¬ 0 ≤ x_34 →
  (Post (-11 : Int32) hp_25 nx_26)))))) ∧
  ((x2 = (1 : Int32) →
  (zgR hp_12 (some h0) [5] 9 fun r_118 =>
  (zaI (g.2.1 0) hp_12 r_118 fun a_119 n_120 f_121 => vp_in x1 n_120 ∧ ∀ x_122 : Int32, x_122 = f_121 x1.toNatClampNeg →
  ((x_122 = (-1 : Int32) →
  P_61 hp_12 nx_13) ∧
  (¬ x_122 = (-1 : Int32) →
  P_64 hp_12 nx_13))))) ∧
  (¬ x2 = (1 : Int32) →
  P_64 hp_12 nx_13)))))))))))))))))))))))))
set_option maxHeartbeats 40000000 in
theorem met_X5_axisBy {l : Launch} {g : zG} {d : Nat} {h0 : Nat} {x1 : Int32} {x2 : Int32} {x3 : Int32} {x4 : Int32} {x5 : Int32} {hp : zHp} {nx : Nat} {Post : Int32 → zHp → Nat → Prop} (hw : wp_X5_axisBy l g d h0 x1 x2 x3 x4 x5 hp nx Post) : zMt l g yX5_axisBy cX5_axisBy 7 (some .int) (d + 1) 0 0 [.ref h0, .int x1, .int x2, .int x3, .int x4, .int x5] hp nx (zQi g Post) := by
  refine z_start (by decide) (Nat.le_of_ble_eq_true rfl) ?_
  intro p e s m below meth c hk hr hin hH hz ls hl
  have hx := hk.1.1
  have hb := hk.1.2.1
  have hown := hk.1.2.2.2.1
  have hts := hk.1.2.2.2.2
  have hS : va_S (zAd g) s.heap s.heap [] := va_S.rf
  have hl : lv_has ls 7 [(0, va_rf (some h0)), (1, .int x1), (2, .int x2), (3, .int x3), (4, .int x4), (5, .int x5)] := hl
  unfold wp_X5_axisBy at hw
  refine lv_iload_n hx hb dX5_axisBy_0 rfl (lv_at hl 1 rfl) ?_
  refine zr_calli (zr_runS (As := [.int x1]) hk hH hz hS hl.1 hw (va_cwS 1 hts (lw_S q3181 q3182 q162 q3183) rfl rfl rfl (by decide +kernel) (z_room (Nat.le_of_ble_eq_true rfl))) rfl rfl (Nat.le_of_ble_eq_true rfl) dX5_axisBy_1 ⟨Nat.le_of_ble_eq_true rfl, Nat.le_of_ble_eq_true rfl⟩) hS (fun x_3 hp_1 nx_2 hw H locs hH hz hS => ?_)
  obtain ⟨P_34, hP_34, hw⟩ := hw
  have hJ_34 : ∀ (hp_4 : zHp) (nx_5 : Nat) (H : Heap) (locs : List Loc) (ls : Array Slot), P_34 hp_4 nx_5 → lv_has ls 7 [(0, va_rf (some h0)), (1, .int x1), (2, .int x2), (3, .int x3), (4, .int x4), (5, .int x5)] → zHd g hp_4 H → H.size = nx_5 → va_S (zAd g) s.heap H locs → W p l e (zrm (d + 1) 0 0) s m ([.ref h0, .int x1, .int x2, .int x3, .int x4, .int x5] : List Value).toArray below meth c H locs 0 0 (MQ below (zQi g Post) ([.ref h0, .int x1, .int x2, .int x3, .int x4, .int x5] : List Value).toArray s 0 0 (zAd g)) (F0 m 34 ls []) := by
    intro hp_4 nx_5 H locs ls hw hl hH hz hS
    have hw := hP_34 hp_4 nx_5 hw
    refine lv_bipush (v := (-2 : Int32)) hx hb dX5_axisBy_34 (by decide) ?_
    exact zr_iret hk hr hH hz hS hw (Nat.le_of_ble_eq_true rfl) (Nat.le_of_ble_eq_true rfl) dX5_axisBy_36
  refine lv_if_eq (tgt := 34) hx hb dX5_axisBy_4 (by decide) (fun hc => ?_) (fun hc => ?_)
  · have hw := hw.1 hc
    exact hJ_34 hp_1 nx_2 _ _ _ hw hl hH hz hS
  · have hw := hw.2 hc
    refine lv_iload_n hx hb dX5_axisBy_7 rfl (lv_at hl 2 rfl) ?_
    refine lv_iconst (v := (0 : Int32)) hx hb dX5_axisBy_8 (by decide) ?_
    refine lv_iconst (v := (1 : Int32)) hx hb dX5_axisBy_9 (by decide) ?_
    refine zr_calli (zr_runS (As := [.int x2, .int (0 : Int32), .int (1 : Int32)]) hk hH hz hS hl.1 hw (va_cwS 3 hts (lw_S q2911 q2912 q162 q2913) rfl rfl rfl (by decide +kernel) (z_room (Nat.le_of_ble_eq_true rfl))) rfl rfl (Nat.le_of_ble_eq_true rfl) dX5_axisBy_10 ⟨Nat.le_of_ble_eq_true rfl, Nat.le_of_ble_eq_true rfl⟩) hS (fun x_8 hp_6 nx_7 hw H locs hH hz hS => ?_)
    refine lv_if_eq (tgt := 34) hx hb dX5_axisBy_13 (by decide) (fun hc => ?_) (fun hc => ?_)
    · have hw := hw.1 hc
      exact hJ_34 hp_6 nx_7 _ _ _ hw hl hH hz hS
    · have hw := hw.2 hc
      refine lv_iload_n hx hb dX5_axisBy_16 rfl (lv_at hl 3 rfl) ?_
      refine zr_calli (zr_runS (As := [.int x3]) hk hH hz hS hl.1 hw (va_cwS 1 hts (lw_S q3198 q3199 q162 q3200) rfl rfl rfl (by decide +kernel) (z_room (Nat.le_of_ble_eq_true rfl))) rfl rfl (Nat.le_of_ble_eq_true rfl) dX5_axisBy_17 ⟨Nat.le_of_ble_eq_true rfl, Nat.le_of_ble_eq_true rfl⟩) hS (fun x_11 hp_9 nx_10 hw H locs hH hz hS => ?_)
      refine lv_if_eq (tgt := 34) hx hb dX5_axisBy_20 (by decide) (fun hc => ?_) (fun hc => ?_)
      · have hw := hw.1 hc
        exact hJ_34 hp_9 nx_10 _ _ _ hw hl hH hz hS
      · have hw := hw.2 hc
        refine lv_iload hx hb dX5_axisBy_23 (lv_at hl 5 rfl) ?_
        refine lv_iconst (v := (1 : Int32)) hx hb dX5_axisBy_25 (by decide) ?_
        refine lv_bipush (v := (8 : Int32)) hx hb dX5_axisBy_26 (by decide) ?_
        refine zr_calli (zr_runS (As := [.int x5, .int (1 : Int32), .int (8 : Int32)]) hk hH hz hS hl.1 hw (va_cwS 3 hts (lw_S q2911 q2912 q162 q2913) rfl rfl rfl (by decide +kernel) (z_room (Nat.le_of_ble_eq_true rfl))) rfl rfl (Nat.le_of_ble_eq_true rfl) dX5_axisBy_28 ⟨Nat.le_of_ble_eq_true rfl, Nat.le_of_ble_eq_true rfl⟩) hS (fun x_14 hp_12 nx_13 hw H locs hH hz hS => ?_)
        refine lv_if_ne (tgt := 37) hx hb dX5_axisBy_31 (by decide) (fun hc => ?_) (fun hc => ?_)
        · have hw := hw.2 hc
          refine zr_aload_n (r := some h0) hx hb dX5_axisBy_37 rfl (lv_at hl 0 rfl) ?_
          obtain ⟨a_15, ci_16, fs_17, r_18, er, he, hc, hv, hw⟩ := zgR_e hw
          refine zw_get hk hH er he hv (fk_X5_34 hc) dX5_axisBy_38 ?_
          refine lv_iload_n hx hb dX5_axisBy_41 rfl (lv_at hl 1 rfl) ?_
          obtain ⟨a_19, n_20, f_21, er, he, hi, hw⟩ := zaI_e hw
          have hw := hw _ rfl
          refine zw_zald hk hH er he hi dX5_axisBy_42 ?_
          generalize f_21 x1.toNatClampNeg = x_22 at hw ⊢
          obtain ⟨P_61, hP_61, hw⟩ := hw
          have hJ_61 : ∀ (hp_23 : zHp) (nx_24 : Nat) (H : Heap) (locs : List Loc) (ls : Array Slot), P_61 hp_23 nx_24 → lv_has ls 7 [(0, va_rf (some h0)), (1, .int x1), (2, .int x2), (3, .int x3), (4, .int x4), (5, .int x5)] → zHd g hp_23 H → H.size = nx_24 → va_S (zAd g) s.heap H locs → W p l e (zrm (d + 1) 0 0) s m ([.ref h0, .int x1, .int x2, .int x3, .int x4, .int x5] : List Value).toArray below meth c H locs 0 0 (MQ below (zQi g Post) ([.ref h0, .int x1, .int x2, .int x3, .int x4, .int x5] : List Value).toArray s 0 0 (zAd g)) (F0 m 61 ls []) := by
            intro hp_23 nx_24 H locs ls hw hl hH hz hS
            have hw := hP_61 hp_23 nx_24 hw
            refine lv_bipush (v := (-3 : Int32)) hx hb dX5_axisBy_61 (by decide) ?_
            exact zr_iret hk hr hH hz hS hw (Nat.le_of_ble_eq_true rfl) (Nat.le_of_ble_eq_true rfl) dX5_axisBy_63
          refine lv_if_eq (tgt := 61) hx hb dX5_axisBy_43 (by decide) (fun hc => ?_) (fun hc => ?_)
          · have hw := hw.1 hc
            exact hJ_61 hp_12 nx_13 _ _ _ hw hl hH hz hS
          · have hw := hw.2 hc
            refine lv_iload_n hx hb dX5_axisBy_46 rfl (lv_at hl 2 rfl) ?_
            refine lv_iconst (v := (1 : Int32)) hx hb dX5_axisBy_47 (by decide) ?_
            obtain ⟨P_64, hP_64, hw⟩ := hw
            have hJ_64 : ∀ (hp_25 : zHp) (nx_26 : Nat) (H : Heap) (locs : List Loc) (ls : Array Slot), P_64 hp_25 nx_26 → lv_has ls 7 [(0, va_rf (some h0)), (1, .int x1), (2, .int x2), (3, .int x3), (4, .int x4), (5, .int x5)] → zHd g hp_25 H → H.size = nx_26 → va_S (zAd g) s.heap H locs → W p l e (zrm (d + 1) 0 0) s m ([.ref h0, .int x1, .int x2, .int x3, .int x4, .int x5] : List Value).toArray below meth c H locs 0 0 (MQ below (zQi g Post) ([.ref h0, .int x1, .int x2, .int x3, .int x4, .int x5] : List Value).toArray s 0 0 (zAd g)) (F0 m 64 ls []) := by
              intro hp_25 nx_26 H locs ls hw hl hH hz hS
              have hw := hP_64 hp_25 nx_26 hw
              refine zr_aload_n (r := some h0) hx hb dX5_axisBy_64 rfl (lv_at hl 0 rfl) ?_
              obtain ⟨a_27, ci_28, fs_29, r_30, er, he, hc, hv, hw⟩ := zgR_e hw
              refine zw_get hk hH er he hv (fk_X5_165 hc) dX5_axisBy_65 ?_
              refine lv_iload_n hx hb dX5_axisBy_68 rfl (lv_at hl 3 rfl) ?_
              obtain ⟨a_31, n_32, f_33, er, he, hi, hw⟩ := zaI_e hw
              have hw := hw _ rfl
              refine zw_iald hk hH er he hi dX5_axisBy_69 ?_
              generalize f_33 x3.toNatClampNeg = x_34 at hw ⊢
              refine lv_if_ge (tgt := 76) hx hb dX5_axisBy_70 (by decide) (fun hc => ?_) (fun hc => ?_)
              · have hw := hw.1 hc
                refine zr_aload_n (r := some h0) hx hb dX5_axisBy_76 rfl (lv_at hl 0 rfl) ?_
                obtain ⟨a_35, ci_36, fs_37, r_38, er, he, hc, hv, hw⟩ := zgR_e hw
                refine zw_get hk hH er he hv (fk_X5_165 hc) dX5_axisBy_77 ?_
                refine lv_iload_n hx hb dX5_axisBy_80 rfl (lv_at hl 3 rfl) ?_
                obtain ⟨a_39, n_40, f_41, er, he, hi, hw⟩ := zaI_e hw
                have hw := hw _ rfl
                refine zw_iald hk hH er he hi dX5_axisBy_81 ?_
                generalize f_41 x3.toNatClampNeg = x_42 at hw ⊢
                refine lv_iconst (v := (3 : Int32)) hx hb dX5_axisBy_82 (by decide) ?_
                refine lv_icmp_eq (tgt := 89) hx hb dX5_axisBy_83 (by decide) (fun hc => ?_) (fun hc => ?_)
                · have hw := hw.1 hc
                  refine lv_iload hx hb dX5_axisBy_89 (lv_at hl 4 rfl) ?_
                  obtain ⟨P_108, hP_108, hw⟩ := hw
                  have hJ_108 : ∀ (hp_43 : zHp) (nx_44 : Nat) (H : Heap) (locs : List Loc) (ls : Array Slot), P_108 hp_43 nx_44 → lv_has ls 7 [(0, va_rf (some h0)), (1, .int x1), (2, .int x2), (3, .int x3), (4, .int x4), (5, .int x5)] → zHd g hp_43 H → H.size = nx_44 → va_S (zAd g) s.heap H locs → W p l e (zrm (d + 1) 0 0) s m ([.ref h0, .int x1, .int x2, .int x3, .int x4, .int x5] : List Value).toArray below meth c H locs 0 0 (MQ below (zQi g Post) ([.ref h0, .int x1, .int x2, .int x3, .int x4, .int x5] : List Value).toArray s 0 0 (zAd g)) (F0 m 108 ls []) := by
                    intro hp_43 nx_44 H locs ls hw hl hH hz hS
                    have hw := hP_108 hp_43 nx_44 hw
                    refine lv_bipush (v := (-12 : Int32)) hx hb dX5_axisBy_108 (by decide) ?_
                    exact zr_iret hk hr hH hz hS hw (Nat.le_of_ble_eq_true rfl) (Nat.le_of_ble_eq_true rfl) dX5_axisBy_110
                  refine lv_if_lt (tgt := 108) hx hb dX5_axisBy_91 (by decide) (fun hc => ?_) (fun hc => ?_)
                  · have hw := hw.1 hc
                    exact hJ_108 hp_25 nx_26 _ _ _ hw hl hH hz hS
                  · have hw := hw.2 hc
                    refine lv_iload hx hb dX5_axisBy_94 (lv_at hl 4 rfl) ?_
                    refine zr_aload_n (r := some h0) hx hb dX5_axisBy_96 rfl (lv_at hl 0 rfl) ?_
                    obtain ⟨a_45, ci_46, fs_47, r_48, er, he, hc, hv, hw⟩ := zgR_e hw
                    refine zw_get hk hH er he hv (fk_X5_168 hc) dX5_axisBy_97 ?_
                    refine lv_iload_n hx hb dX5_axisBy_100 rfl (lv_at hl 3 rfl) ?_
                    obtain ⟨a_49, n_50, f_51, er, he, hi, hw⟩ := zaI_e hw
                    have hw := hw _ rfl
                    refine zw_iald hk hH er he hi dX5_axisBy_101 ?_
                    generalize f_51 x3.toNatClampNeg = x_52 at hw ⊢
                    refine lv_iload hx hb dX5_axisBy_102 (lv_at hl 5 rfl) ?_
                    refine lv_isub hx hb dX5_axisBy_104 ?_
                    refine lv_icmp_le (tgt := 111) hx hb dX5_axisBy_105 (by decide) (fun hc => ?_) (fun hc => ?_)
                    · have hw := hw.1 hc
                      refine lv_iconst (v := (0 : Int32)) hx hb dX5_axisBy_111 (by decide) ?_
                      refine lv_istore (lv' := [(6, .int (0 : Int32)), (0, va_rf (some h0)), (1, .int x1), (2, .int x2), (3, .int x3), (4, .int x4), (5, .int x5)]) hx hb dX5_axisBy_112 hl (by decide) (by first | rfl | simp [List.filter_cons, z_cat, z_catI, z_catJ, z_catF, z_catD]) (fun ls hl => ?_)
                      obtain ⟨I_114, ⟨n_114, hI⟩, hB_114⟩ := hw
                      have hL_114 : ∀ (n_56 : Nat) (x_53 : Int32) (hp_54 : zHp) (nx_55 : Nat) (H : Heap) (locs : List Loc) (ls : Array Slot), I_114 n_56 x_53 hp_54 nx_55 → lv_has ls 7 [(0, va_rf (some h0)), (1, .int x1), (2, .int x2), (3, .int x3), (4, .int x4), (5, .int x5), (6, .int x_53)] → zHd g hp_54 H → H.size = nx_55 → va_S (zAd g) s.heap H locs → W p l e (zrm (d + 1) 0 0) s m ([.ref h0, .int x1, .int x2, .int x3, .int x4, .int x5] : List Value).toArray below meth c H locs 0 0 (MQ below (zQi g Post) ([.ref h0, .int x1, .int x2, .int x3, .int x4, .int x5] : List Value).toArray s 0 0 (zAd g)) (F0 m 114 ls []) := by
                        intro n_56
                        induction n_56 using Nat.strongRecOn with
                        | _ n_56 ih_114 =>
                          intro x_53 hp_54 nx_55 H locs ls hw hl hH hz hS
                          have hw := hB_114 n_56 x_53 hp_54 nx_55 hw
                          refine lv_iload hx hb dX5_axisBy_114 (lv_at hl 6 rfl) ?_
                          refine lv_iload hx hb dX5_axisBy_116 (lv_at hl 5 rfl) ?_
                          refine lv_icmp_ge (tgt := 145) hx hb dX5_axisBy_118 (by decide) (fun hc => ?_) (fun hc => ?_)
                          · have hw := hw.1 hc
                            refine zr_aload_n (r := some h0) hx hb dX5_axisBy_145 rfl (lv_at hl 0 rfl) ?_
                            refine lv_iload_n hx hb dX5_axisBy_146 rfl (lv_at hl 1 rfl) ?_
                            refine lv_iload_n hx hb dX5_axisBy_147 rfl (lv_at hl 2 rfl) ?_
                            refine lv_iload hx hb dX5_axisBy_148 (lv_at hl 5 rfl) ?_
                            obtain ⟨a_97, ci_98, fs_99, er, he, hc, hw⟩ := zo_e hw
                            obtain rfl := List.mem_singleton.mp hc
                            refine zr_calli (zw_runV (As := [.int x1, .int x2, .int x5]) hk hH hz hS hl.1 er hw (cwV 3 hts (lw_V q3190 q3192 qs114 q162 q3193) rfl rfl rfl (by decide +kernel) (z_room (Nat.le_of_ble_eq_true rfl))) he rfl rfl rfl (Nat.le_of_ble_eq_true rfl) dX5_axisBy_150 ⟨Nat.le_of_ble_eq_true rfl, Nat.le_of_ble_eq_true rfl⟩) hS (fun x_59 hp_57 nx_58 hw H locs hH hz hS => ?_)
                            refine lv_if_ne (tgt := 159) hx hb dX5_axisBy_153 (by decide) (fun hc => ?_) (fun hc => ?_)
                            · have hw := hw.2 hc
                              refine lv_iconst (v := (0 : Int32)) hx hb dX5_axisBy_159 (by decide) ?_
                              refine lv_istore (lv' := [(6, .int (0 : Int32)), (0, va_rf (some h0)), (1, .int x1), (2, .int x2), (3, .int x3), (4, .int x4), (5, .int x5)]) hx hb dX5_axisBy_160 hl (by decide) (by first | rfl | simp [List.filter_cons, z_cat, z_catI, z_catJ, z_catF, z_catD]) (fun ls hl => ?_)
                              obtain ⟨I_162, ⟨n_96, hI⟩, hB_162⟩ := hw
                              have hL_162 : ∀ (n_63 : Nat) (x_60 : Int32) (hp_61 : zHp) (nx_62 : Nat) (H : Heap) (locs : List Loc) (ls : Array Slot), I_162 n_63 x_60 hp_61 nx_62 → lv_has ls 7 [(0, va_rf (some h0)), (1, .int x1), (2, .int x2), (3, .int x3), (4, .int x4), (5, .int x5), (6, .int x_60)] → zHd g hp_61 H → H.size = nx_62 → va_S (zAd g) s.heap H locs → W p l e (zrm (d + 1) 0 0) s m ([.ref h0, .int x1, .int x2, .int x3, .int x4, .int x5] : List Value).toArray below meth c H locs 0 0 (MQ below (zQi g Post) ([.ref h0, .int x1, .int x2, .int x3, .int x4, .int x5] : List Value).toArray s 0 0 (zAd g)) (F0 m 162 ls []) := by
                                intro n_63
                                induction n_63 using Nat.strongRecOn with
                                | _ n_63 ih_162 =>
                                  intro x_60 hp_61 nx_62 H locs ls hw hl hH hz hS
                                  have hw := hB_162 n_63 x_60 hp_61 nx_62 hw
                                  refine lv_iload hx hb dX5_axisBy_162 (lv_at hl 6 rfl) ?_
                                  refine lv_iload hx hb dX5_axisBy_164 (lv_at hl 5 rfl) ?_
                                  refine lv_icmp_ge (tgt := 200) hx hb dX5_axisBy_166 (by decide) (fun hc => ?_) (fun hc => ?_)
                                  · have hw := hw.1 hc
                                    refine zr_aload_n (r := some h0) hx hb dX5_axisBy_200 rfl (lv_at hl 0 rfl) ?_
                                    refine lv_iload_n hx hb dX5_axisBy_201 rfl (lv_at hl 1 rfl) ?_
                                    obtain ⟨a_67, ci_68, fs_69, er, he, hc, hw⟩ := zo_e hw
                                    obtain rfl := List.mem_singleton.mp hc
                                    refine zr_calli (zw_runV (As := [.int x1]) hk hH hz hS hl.1 er hw (cwV 1 hts (lw_V q2986 q2988 qs80 q162 q2989) rfl rfl rfl (by decide +kernel) (z_room (Nat.le_of_ble_eq_true rfl))) he rfl rfl rfl (Nat.le_of_ble_eq_true rfl) dX5_axisBy_202 ⟨Nat.le_of_ble_eq_true rfl, Nat.le_of_ble_eq_true rfl⟩) hS (fun x_66 hp_64 nx_65 hw H locs hH hz hS => ?_)
                                    exact zr_iret hk hr hH hz hS hw (Nat.le_of_ble_eq_true rfl) (Nat.le_of_ble_eq_true rfl) dX5_axisBy_205
                                  · have hw := hw.2 hc
                                    refine zr_aload_n (r := some h0) hx hb dX5_axisBy_169 rfl (lv_at hl 0 rfl) ?_
                                    obtain ⟨a_70, ci_71, fs_72, r_73, er, he, hc, hv, hw⟩ := zgR_e hw
                                    refine zw_get hk hH er he hv (fk_X5_49 hc) dX5_axisBy_170 ?_
                                    refine lv_iconst (v := (2 : Int32)) hx hb dX5_axisBy_173 (by decide) ?_
                                    refine lv_iload_n hx hb dX5_axisBy_174 rfl (lv_at hl 1 rfl) ?_
                                    refine lv_imul hx hb dX5_axisBy_175 ?_
                                    refine lv_iload_n hx hb dX5_axisBy_176 rfl (lv_at hl 2 rfl) ?_
                                    refine lv_iadd hx hb dX5_axisBy_177 ?_
                                    obtain ⟨a_74, n_75, f_76, er, he, hi, hw⟩ := zaR_e hw
                                    have hw := hw _ rfl
                                    refine zw_aald hk hH 15 er he rfl rfl hi dX5_axisBy_178 ?_
                                    generalize f_76 (((2 : Int32) * x1) + x2).toNatClampNeg = r_77 at hw ⊢
                                    refine lv_iload hx hb dX5_axisBy_179 (lv_at hl 6 rfl) ?_
                                    refine zr_aload_n (r := some h0) hx hb dX5_axisBy_181 rfl (lv_at hl 0 rfl) ?_
                                    obtain ⟨a_78, ci_79, fs_80, r_81, er, he, hc, hv, hw⟩ := zgR_e hw
                                    refine zw_get hk hH er he hv (fk_X5_171 hc) dX5_axisBy_182 ?_
                                    refine lv_iload_n hx hb dX5_axisBy_185 rfl (lv_at hl 3 rfl) ?_
                                    obtain ⟨a_82, n_83, f_84, er, he, hi, hw⟩ := zaR_e hw
                                    have hw := hw _ rfl
                                    refine zw_aald hk hH 15 er he rfl rfl hi dX5_axisBy_186 ?_
                                    generalize f_84 x3.toNatClampNeg = r_85 at hw ⊢
                                    refine lv_iload hx hb dX5_axisBy_187 (lv_at hl 4 rfl) ?_
                                    refine lv_iload hx hb dX5_axisBy_189 (lv_at hl 6 rfl) ?_
                                    refine lv_iadd hx hb dX5_axisBy_191 ?_
                                    obtain ⟨a_86, n_87, f_88, er, he, hi, hw⟩ := zaD_e hw
                                    have hw := hw _ rfl
                                    refine zw_dald hk hH er he hi dX5_axisBy_192 ?_
                                    generalize f_88 (x4 + x_60).toNatClampNeg = x_89 at hw ⊢
                                    obtain ⟨a_90, n_91, f_92, er, he, hi, hA, hw⟩ := zaD_e hw
                                    obtain ⟨hp_93, eh⟩ : ∃ y : zHp, y = va_up hp_61 a_90 (some (.inl (g.2.1 1, n_91, .inr (.inr (.inr (.inl (va_up f_92 x_60.toNatClampNeg x_89))))))) := ⟨_, rfl⟩
                                    have hw := hw hp_93 eh
                                    refine zw_dast hk hH hz hS er he hi hA eh dX5_axisBy_193 (fun H locs hH hz hS => ?_)
                                    obtain ⟨x_94, ex_94⟩ : ∃ y : Int32, y = x_60 + (1 : Int32) := ⟨_, rfl⟩
                                    have hw := hw x_94 ex_94
                                    refine lv_iinc (v := x_94) (lv' := [(6, .int x_94), (0, va_rf (some h0)), (1, .int x1), (2, .int x2), (3, .int x3), (4, .int x4), (5, .int x5)]) hx hb dX5_axisBy_194 hl (k := 6) rfl (by rw [ex_94]; rfl) (by decide) (by first | rfl | simp [List.filter_cons, z_cat, z_catI, z_catJ, z_catF, z_catD]) (fun ls hl => ?_)
                                    refine lv_goto (tgt := 162) hx hb dX5_axisBy_197 (by decide) ?_
                                    obtain ⟨k_95, hlt, hw⟩ := hw
                                    exact ih_162 k_95 hlt x_94 hp_93 nx_62 _ _ _ hw (lv_sub hl [1, 2, 3, 4, 5, 6, 0] rfl) hH hz hS
                              exact hL_162 n_96 (0 : Int32) hp_57 nx_58 _ _ _ hI (lv_sub hl [1, 2, 3, 4, 5, 6, 0] rfl) hH hz hS
                            · have hw := hw.1 hc
                              refine lv_bipush (v := (-4 : Int32)) hx hb dX5_axisBy_156 (by decide) ?_
                              exact zr_iret hk hr hH hz hS hw (Nat.le_of_ble_eq_true rfl) (Nat.le_of_ble_eq_true rfl) dX5_axisBy_158
                          · have hw := hw.2 hc
                            refine zr_aload_n (r := some h0) hx hb dX5_axisBy_121 rfl (lv_at hl 0 rfl) ?_
                            obtain ⟨a_100, ci_101, fs_102, r_103, er, he, hc, hv, hw⟩ := zgR_e hw
                            refine zw_get hk hH er he hv (fk_X5_174 hc) dX5_axisBy_122 ?_
                            refine lv_iload_n hx hb dX5_axisBy_125 rfl (lv_at hl 3 rfl) ?_
                            obtain ⟨a_104, n_105, f_106, er, he, hi, hw⟩ := zaR_e hw
                            have hw := hw _ rfl
                            refine zw_aald hk hH 16 er he rfl rfl hi dX5_axisBy_126 ?_
                            generalize f_106 x3.toNatClampNeg = r_107 at hw ⊢
                            refine lv_iload hx hb dX5_axisBy_127 (lv_at hl 4 rfl) ?_
                            refine lv_iload hx hb dX5_axisBy_129 (lv_at hl 6 rfl) ?_
                            refine lv_iadd hx hb dX5_axisBy_131 ?_
                            obtain ⟨a_108, n_109, f_110, er, he, hi, hw⟩ := zaI_e hw
                            have hw := hw _ rfl
                            refine zw_zald hk hH er he hi dX5_axisBy_132 ?_
                            generalize f_110 (x4 + x_53).toNatClampNeg = x_111 at hw ⊢
                            refine lv_if_eq (tgt := 139) hx hb dX5_axisBy_133 (by decide) (fun hc => ?_) (fun hc => ?_)
                            · have hw := hw.1 hc
                              obtain ⟨x_112, ex_112⟩ : ∃ y : Int32, y = x_53 + (1 : Int32) := ⟨_, rfl⟩
                              have hw := hw x_112 ex_112
                              refine lv_iinc (v := x_112) (lv' := [(6, .int x_112), (0, va_rf (some h0)), (1, .int x1), (2, .int x2), (3, .int x3), (4, .int x4), (5, .int x5)]) hx hb dX5_axisBy_139 hl (k := 6) rfl (by rw [ex_112]; rfl) (by decide) (by first | rfl | simp [List.filter_cons, z_cat, z_catI, z_catJ, z_catF, z_catD]) (fun ls hl => ?_)
                              refine lv_goto (tgt := 114) hx hb dX5_axisBy_142 (by decide) ?_
                              obtain ⟨k_113, hlt, hw⟩ := hw
                              exact ih_114 k_113 hlt x_112 hp_54 nx_55 _ _ _ hw (lv_sub hl [1, 2, 3, 4, 5, 6, 0] rfl) hH hz hS
                            · have hw := hw.2 hc
                              refine lv_bipush (v := (-3 : Int32)) hx hb dX5_axisBy_136 (by decide) ?_
                              exact zr_iret hk hr hH hz hS hw (Nat.le_of_ble_eq_true rfl) (Nat.le_of_ble_eq_true rfl) dX5_axisBy_138
                      exact hL_114 n_114 (0 : Int32) hp_25 nx_26 _ _ _ hI (lv_sub hl [1, 2, 3, 4, 5, 6, 0] rfl) hH hz hS
                    · have hw := hw.2 hc
                      exact hJ_108 hp_25 nx_26 _ _ _ hw hl hH hz hS
                · have hw := hw.2 hc
                  refine lv_bipush (v := (-13 : Int32)) hx hb dX5_axisBy_86 (by decide) ?_
                  exact zr_iret hk hr hH hz hS hw (Nat.le_of_ble_eq_true rfl) (Nat.le_of_ble_eq_true rfl) dX5_axisBy_88
              · have hw := hw.2 hc
                refine lv_bipush (v := (-11 : Int32)) hx hb dX5_axisBy_73 (by decide) ?_
                exact zr_iret hk hr hH hz hS hw (Nat.le_of_ble_eq_true rfl) (Nat.le_of_ble_eq_true rfl) dX5_axisBy_75
            refine lv_icmp_ne (tgt := 64) hx hb dX5_axisBy_48 (by decide) (fun hc => ?_) (fun hc => ?_)
            · have hw := hw.2 hc
              exact hJ_64 hp_12 nx_13 _ _ _ hw hl hH hz hS
            · have hw := hw.1 hc
              refine zr_aload_n (r := some h0) hx hb dX5_axisBy_51 rfl (lv_at hl 0 rfl) ?_
              obtain ⟨a_115, ci_116, fs_117, r_118, er, he, hc, hv, hw⟩ := zgR_e hw
              refine zw_get hk hH er he hv (fk_X5_43 hc) dX5_axisBy_52 ?_
              refine lv_iload_n hx hb dX5_axisBy_55 rfl (lv_at hl 1 rfl) ?_
              obtain ⟨a_119, n_120, f_121, er, he, hi, hw⟩ := zaI_e hw
              have hw := hw _ rfl
              refine zw_iald hk hH er he hi dX5_axisBy_56 ?_
              generalize f_121 x1.toNatClampNeg = x_122 at hw ⊢
              refine lv_iconst (v := (-1 : Int32)) hx hb dX5_axisBy_57 (by decide) ?_
              refine lv_icmp_ne (tgt := 64) hx hb dX5_axisBy_58 (by decide) (fun hc => ?_) (fun hc => ?_)
              · have hw := hw.2 hc
                exact hJ_64 hp_12 nx_13 _ _ _ hw hl hH hz hS
              · have hw := hw.1 hc
                exact hJ_61 hp_12 nx_13 _ _ _ hw hl hH hz hS
        · have hw := hw.1 hc
          exact hJ_34 hp_12 nx_13 _ _ _ hw hl hH hz hS
def wp_X5_isRow (l : Launch) (g : zG) (d : Nat) (x0 : Int32) (hp : zHp) (nx : Nat) (Post : Int32 → zHp → Nat → Prop) : Prop :=
  (zMt l g yX5_in cX5_in 3 (some .boolean) d 0 0 [.int x0, .int (0 : Int32), .int (3 : Int32)] hp nx (zQi g fun x_3 hp_1 nx_2 =>
  (((x_3 = 0 ∨ x_3 = 1) ∧ Post x_3 hp_1 nx_2))))
set_option maxHeartbeats 40000000 in
theorem met_X5_isRow {l : Launch} {g : zG} {d : Nat} {x0 : Int32} {hp : zHp} {nx : Nat} {Post : Int32 → zHp → Nat → Prop} (hw : wp_X5_isRow l g d x0 hp nx Post) : zMt l g yX5_isRow cX5_isRow 1 (some .boolean) (d + 1) 0 0 [.int x0] hp nx (zQi g Post) := by
  refine z_start (by decide) (Nat.le_of_ble_eq_true rfl) ?_
  intro p e s m below meth c hk hr hin hH hz ls hl
  have hx := hk.1.1
  have hb := hk.1.2.1
  have hown := hk.1.2.2.2.1
  have hts := hk.1.2.2.2.2
  have hS : va_S (zAd g) s.heap s.heap [] := va_S.rf
  have hl : lv_has ls 1 [(0, .int x0)] := hl
  unfold wp_X5_isRow at hw
  refine lv_iload_n hx hb dX5_isRow_0 rfl (lv_at hl 0 rfl) ?_
  refine lv_iconst (v := (0 : Int32)) hx hb dX5_isRow_1 (by decide) ?_
  refine lv_iconst (v := (3 : Int32)) hx hb dX5_isRow_2 (by decide) ?_
  refine zr_calli (zr_runS (As := [.int x0, .int (0 : Int32), .int (3 : Int32)]) hk hH hz hS hl.1 hw (va_cwS 3 hts (lw_S q2911 q2912 q162 q2913) rfl rfl rfl (by decide +kernel) (z_room (Nat.le_of_ble_eq_true rfl))) rfl rfl (Nat.le_of_ble_eq_true rfl) dX5_isRow_3 ⟨Nat.le_of_ble_eq_true rfl, Nat.le_of_ble_eq_true rfl⟩) hS (fun x_3 hp_1 nx_2 hw H locs hH hz hS => ?_)
  exact zr_zret hk hr hH hz hS hw.1 hw.2 (Nat.le_of_ble_eq_true rfl) (Nat.le_of_ble_eq_true rfl) dX5_isRow_6
def wp_X5_drop (l : Launch) (g : zG) (d : Nat) (h0 : Nat) (x1 : Int32) (hp : zHp) (nx : Nat) (Post : Int32 → zHp → Nat → Prop) : Prop :=
  (zMt l g yX5_isTable cX5_isTable 1 (some .boolean) d 0 0 [.int x1] hp nx (zQi g fun x_3 hp_1 nx_2 =>
  ((x_3 = 0 →
  (Post (-2 : Int32) hp_1 nx_2)) ∧
  (¬ x_3 = 0 →
  (zgR hp_1 (some h0) [5] 6 fun r_7 =>
  (zaI (g.2.1 3) hp_1 r_7 fun a_8 n_9 f_10 => vp_in x1 n_9 ∧ ∀ x_11 : Int32, x_11 = f_10 x1.toNatClampNeg →
  ((x_11 = 0 →
  (Post (-3 : Int32) hp_1 nx_2)) ∧
  (¬ x_11 = 0 →
  (zgR hp_1 (some h0) [5] 6 fun r_15 =>
  (zaI (g.2.1 3) hp_1 r_15 fun a_16 n_17 f_18 => vp_in x1 n_17 ∧ zB g ≤ a_16 ∧ ∀ hp_19 : zHp, hp_19 = va_up hp_1 a_16 (some (.inl (g.2.1 3, n_17, .inl (va_up f_18 x1.toNatClampNeg (vp_nar .boolean (0 : Int32)))))) →
  (Post (1 : Int32) hp_19 nx_2)))))))))))
set_option maxHeartbeats 40000000 in
theorem met_X5_drop {l : Launch} {g : zG} {d : Nat} {h0 : Nat} {x1 : Int32} {hp : zHp} {nx : Nat} {Post : Int32 → zHp → Nat → Prop} (hw : wp_X5_drop l g d h0 x1 hp nx Post) : zMt l g yX5_drop cX5_drop 2 (some .int) (d + 1) 0 0 [.ref h0, .int x1] hp nx (zQi g Post) := by
  refine z_start (by decide) (Nat.le_of_ble_eq_true rfl) ?_
  intro p e s m below meth c hk hr hin hH hz ls hl
  have hx := hk.1.1
  have hb := hk.1.2.1
  have hown := hk.1.2.2.2.1
  have hts := hk.1.2.2.2.2
  have hS : va_S (zAd g) s.heap s.heap [] := va_S.rf
  have hl : lv_has ls 2 [(0, va_rf (some h0)), (1, .int x1)] := hl
  unfold wp_X5_drop at hw
  refine lv_iload_n hx hb dX5_drop_0 rfl (lv_at hl 1 rfl) ?_
  refine zr_calli (zr_runS (As := [.int x1]) hk hH hz hS hl.1 hw (va_cwS 1 hts (lw_S q3181 q3182 q162 q3183) rfl rfl rfl (by decide +kernel) (z_room (Nat.le_of_ble_eq_true rfl))) rfl rfl (Nat.le_of_ble_eq_true rfl) dX5_drop_1 ⟨Nat.le_of_ble_eq_true rfl, Nat.le_of_ble_eq_true rfl⟩) hS (fun x_3 hp_1 nx_2 hw H locs hH hz hS => ?_)
  refine lv_if_ne (tgt := 10) hx hb dX5_drop_4 (by decide) (fun hc => ?_) (fun hc => ?_)
  · have hw := hw.2 hc
    refine zr_aload_n (r := some h0) hx hb dX5_drop_10 rfl (lv_at hl 0 rfl) ?_
    obtain ⟨a_4, ci_5, fs_6, r_7, er, he, hc, hv, hw⟩ := zgR_e hw
    refine zw_get hk hH er he hv (fk_X5_34 hc) dX5_drop_11 ?_
    refine lv_iload_n hx hb dX5_drop_14 rfl (lv_at hl 1 rfl) ?_
    obtain ⟨a_8, n_9, f_10, er, he, hi, hw⟩ := zaI_e hw
    have hw := hw _ rfl
    refine zw_zald hk hH er he hi dX5_drop_15 ?_
    generalize f_10 x1.toNatClampNeg = x_11 at hw ⊢
    refine lv_if_ne (tgt := 22) hx hb dX5_drop_16 (by decide) (fun hc => ?_) (fun hc => ?_)
    · have hw := hw.2 hc
      refine zr_aload_n (r := some h0) hx hb dX5_drop_22 rfl (lv_at hl 0 rfl) ?_
      obtain ⟨a_12, ci_13, fs_14, r_15, er, he, hc, hv, hw⟩ := zgR_e hw
      refine zw_get hk hH er he hv (fk_X5_34 hc) dX5_drop_23 ?_
      refine lv_iload_n hx hb dX5_drop_26 rfl (lv_at hl 1 rfl) ?_
      refine lv_iconst (v := (0 : Int32)) hx hb dX5_drop_27 (by decide) ?_
      obtain ⟨a_16, n_17, f_18, er, he, hi, hA, hw⟩ := zaI_e hw
      obtain ⟨hp_19, eh⟩ : ∃ y : zHp, y = va_up hp_1 a_16 (some (.inl (g.2.1 3, n_17, .inl (va_up f_18 x1.toNatClampNeg (vp_nar .boolean (0 : Int32)))))) := ⟨_, rfl⟩
      have hw := hw hp_19 eh
      refine zw_zast hk hH hz hS er he hi hA eh dX5_drop_28 (fun H locs hH hz hS => ?_)
      refine lv_iconst (v := (1 : Int32)) hx hb dX5_drop_29 (by decide) ?_
      exact zr_iret hk hr hH hz hS hw (Nat.le_of_ble_eq_true rfl) (Nat.le_of_ble_eq_true rfl) dX5_drop_30
    · have hw := hw.1 hc
      refine lv_bipush (v := (-3 : Int32)) hx hb dX5_drop_19 (by decide) ?_
      exact zr_iret hk hr hH hz hS hw (Nat.le_of_ble_eq_true rfl) (Nat.le_of_ble_eq_true rfl) dX5_drop_21
  · have hw := hw.1 hc
    refine lv_bipush (v := (-2 : Int32)) hx hb dX5_drop_7 (by decide) ?_
    exact zr_iret hk hr hH hz hS hw (Nat.le_of_ble_eq_true rfl) (Nat.le_of_ble_eq_true rfl) dX5_drop_9
def wp_X5_at (l : Launch) (g : zG) (d : Nat) (h0 : Nat) (x1 : Int32) (x2 : Int32) (x3 : Int32) (hp : zHp) (nx : Nat) (Post : Int64 → zHp → Nat → Prop) : Prop :=
  (zo hp (some h0) [5] fun a_20 ci_21 fs_22 => zMt l g yX5_refusal cX5_refusal 4 (some .int) d 0 0 (.ref a_20 :: [.int x1, .int x2, .int x3]) hp nx (zQi g fun x_3 hp_1 nx_2 =>
  ((x_3 = 0 →
  (zo hp_1 (some h0) [5] fun a_17 ci_18 fs_19 => zMt l g yX5_tellCaseNow cX5_tellCaseNow 4 none d 0 0 (.ref a_17 :: [.int x1, .int x2, .int x3]) hp_1 nx_2 (zQv g fun hp_4 nx_5 =>
  (zgD hp_4 (some h0) [5] 30 fun x_9 =>
  (zgI hp_4 (some h0) [5] 31 fun x_13 =>
  (zMt l g yX5_answer cX5_answer 3 (some .long) d 0 0 [.double x_9, .int x_13] hp_4 nx_5 (zQl g fun x_16 hp_14 nx_15 =>
  (Post x_16 hp_14 nx_15)))))))) ∧
  (¬ x_3 = 0 →
  (Post x_3.toInt64 hp_1 nx_2)))))
set_option maxHeartbeats 40000000 in
theorem met_X5_at {l : Launch} {g : zG} {d : Nat} {h0 : Nat} {x1 : Int32} {x2 : Int32} {x3 : Int32} {hp : zHp} {nx : Nat} {Post : Int64 → zHp → Nat → Prop} (hw : wp_X5_at l g d h0 x1 x2 x3 hp nx Post) : zMt l g yX5_at cX5_at 5 (some .long) (d + 1) 0 0 [.ref h0, .int x1, .int x2, .int x3] hp nx (zQl g Post) := by
  refine z_start (by decide) (Nat.le_of_ble_eq_true rfl) ?_
  intro p e s m below meth c hk hr hin hH hz ls hl
  have hx := hk.1.1
  have hb := hk.1.2.1
  have hown := hk.1.2.2.2.1
  have hts := hk.1.2.2.2.2
  have hS : va_S (zAd g) s.heap s.heap [] := va_S.rf
  have hl : lv_has ls 5 [(0, va_rf (some h0)), (1, .int x1), (2, .int x2), (3, .int x3)] := hl
  unfold wp_X5_at at hw
  refine zr_aload_n (r := some h0) hx hb dX5_at_0 rfl (lv_at hl 0 rfl) ?_
  refine lv_iload_n hx hb dX5_at_1 rfl (lv_at hl 1 rfl) ?_
  refine lv_iload_n hx hb dX5_at_2 rfl (lv_at hl 2 rfl) ?_
  refine lv_iload_n hx hb dX5_at_3 rfl (lv_at hl 3 rfl) ?_
  obtain ⟨a_20, ci_21, fs_22, er, he, hc, hw⟩ := zo_e hw
  obtain rfl := List.mem_singleton.mp hc
  refine zr_calli (zw_runV (As := [.int x1, .int x2, .int x3]) hk hH hz hS hl.1 er hw (cwV 3 hts (lw_V q3209 q3211 qs115 q162 q3212) rfl rfl rfl (by decide +kernel) (z_room (Nat.le_of_ble_eq_true rfl))) he rfl rfl rfl (Nat.le_of_ble_eq_true rfl) dX5_at_4 ⟨Nat.le_of_ble_eq_true rfl, Nat.le_of_ble_eq_true rfl⟩) hS (fun x_3 hp_1 nx_2 hw H locs hH hz hS => ?_)
  refine lv_istore (lv' := [(4, .int x_3), (0, va_rf (some h0)), (1, .int x1), (2, .int x2), (3, .int x3)]) hx hb dX5_at_7 hl (by decide) (by first | rfl | simp [List.filter_cons, z_cat, z_catI, z_catJ, z_catF, z_catD]) (fun ls hl => ?_)
  refine lv_iload hx hb dX5_at_9 (lv_at hl 0 rfl) ?_
  refine lv_if_eq (tgt := 18) hx hb dX5_at_11 (by decide) (fun hc => ?_) (fun hc => ?_)
  · have hw := hw.1 hc
    refine zr_aload_n (r := some h0) hx hb dX5_at_18 rfl (lv_at hl 1 rfl) ?_
    refine lv_iload_n hx hb dX5_at_19 rfl (lv_at hl 2 rfl) ?_
    refine lv_iload_n hx hb dX5_at_20 rfl (lv_at hl 3 rfl) ?_
    refine lv_iload_n hx hb dX5_at_21 rfl (lv_at hl 4 rfl) ?_
    obtain ⟨a_17, ci_18, fs_19, er, he, hc, hw⟩ := zo_e hw
    obtain rfl := List.mem_singleton.mp hc
    refine zr_callv (zw_runV (As := [.int x1, .int x2, .int x3]) hk hH hz hS hl.1 er hw (cwV 3 hts (lw_V q3213 q3215 qs116 q162 q3216) rfl rfl rfl (by decide +kernel) (z_room (Nat.le_of_ble_eq_true rfl))) he rfl rfl rfl (Nat.le_of_ble_eq_true rfl) dX5_at_22 ⟨Nat.le_of_ble_eq_true rfl, Nat.le_of_ble_eq_true rfl⟩) hS (fun hp_4 nx_5 hw H locs hH hz hS => ?_)
    refine zr_aload_n (r := some h0) hx hb dX5_at_25 rfl (lv_at hl 1 rfl) ?_
    obtain ⟨a_6, ci_7, fs_8, x_9, er, he, hc, hv, hw⟩ := zgD_e hw
    refine zw_get hk hH er he hv (fk_X5_282 hc) dX5_at_26 ?_
    refine zr_aload_n (r := some h0) hx hb dX5_at_29 rfl (lv_at hl 1 rfl) ?_
    obtain ⟨a_10, ci_11, fs_12, x_13, er, he, hc, hv, hw⟩ := zgI_e hw
    refine zw_get hk hH er he hv (fk_X5_286 hc) dX5_at_30 ?_
    refine zr_calll (zr_runS (As := [.double x_9, .int x_13]) hk hH hz hS hl.1 hw (va_cwS 2 hts (lw_S q3046 q3047 q162 q3048) rfl rfl rfl (by decide +kernel) (z_room (Nat.le_of_ble_eq_true rfl))) rfl rfl (Nat.le_of_ble_eq_true rfl) dX5_at_33 ⟨Nat.le_of_ble_eq_true rfl, Nat.le_of_ble_eq_true rfl⟩) hS (fun x_16 hp_14 nx_15 hw H locs hH hz hS => ?_)
    exact zr_lret hk hr hH hz hS hw (Nat.le_of_ble_eq_true rfl) (Nat.le_of_ble_eq_true rfl) dX5_at_36
  · have hw := hw.2 hc
    refine lv_iload hx hb dX5_at_14 (lv_at hl 0 rfl) ?_
    refine lv_i2l hx hb dX5_at_16 rfl ?_
    exact zr_lret hk hr hH hz hS hw (Nat.le_of_ble_eq_true rfl) (Nat.le_of_ble_eq_true rfl) dX5_at_17
def wp_X5_refusal (l : Launch) (g : zG) (d : Nat) (h0 : Nat) (x1 : Int32) (x2 : Int32) (x3 : Int32) (hp : zHp) (nx : Nat) (Post : Int32 → zHp → Nat → Prop) : Prop :=
  (zMt l g yX5_isTable cX5_isTable 1 (some .boolean) d 0 0 [.int x1] hp nx (zQi g fun x_3 hp_1 nx_2 =>
  ((x_3 = 0 →
  (Post (-2 : Int32) hp_1 nx_2)) ∧
  (¬ x_3 = 0 →
  (zgR hp_1 (some h0) [5] 6 fun r_7 =>
  (zaI (g.2.1 3) hp_1 r_7 fun a_8 n_9 f_10 => vp_in x1 n_9 ∧ ∀ x_11 : Int32, x_11 = f_10 x1.toNatClampNeg →
  ((x_11 = 0 →
  (Post (-3 : Int32) hp_1 nx_2)) ∧
  (¬ x_11 = 0 →
  (zgR hp_1 (some h0) [5] 10 fun r_15 =>
  (zaI (g.2.1 0) hp_1 r_15 fun a_16 n_17 f_18 => vp_in ((2 : Int32) * x1) n_17 ∧ ∀ x_19 : Int32, x_19 = f_18 ((2 : Int32) * x1).toNatClampNeg →
  (zMt l g yX5_in cX5_in 3 (some .boolean) d 0 0 [.int x2, .int (0 : Int32), .int (x_19 - (1 : Int32))] hp_1 nx_2 (zQi g fun x_22 hp_20 nx_21 =>
  (∃ P_80 : Int32 → zHp → Nat → Prop, (∀ (x_23 : Int32) (hp_24 : zHp) (nx_25 : Nat), P_80 x_23 hp_24 nx_25 →
  (Post x_23 hp_24 nx_25)) ∧
  (∃ P_78 : zHp → Nat → Prop, (∀ (hp_26 : zHp) (nx_27 : Nat), P_78 hp_26 nx_27 →
  P_80 (-2 : Int32) hp_26 nx_27) ∧
  ((x_22 = 0 →
  P_78 hp_20 nx_21) ∧
  (¬ x_22 = 0 →
  (zgR hp_20 (some h0) [5] 9 fun r_31 =>
  (zaI (g.2.1 0) hp_20 r_31 fun a_32 n_33 f_34 => vp_in x1 n_33 ∧ ∀ x_35 : Int32, x_35 = f_34 x1.toNatClampNeg →
  (∃ P_68 : Int32 → Int32 → Int32 → zHp → Nat → Prop, (∀ (x_36 : Int32) (x_37 : Int32) (x_38 : Int32) (hp_39 : zHp) (nx_40 : Nat), P_68 x_36 x_37 x_38 hp_39 nx_40 →
  (zMt l g yX5_in cX5_in 3 (some .boolean) d 0 0 [.int x_36, .int x_37, .int x_38] hp_39 nx_40 (zQi g fun x_43 hp_41 nx_42 =>
  ((x_43 = 0 →
  P_78 hp_41 nx_42) ∧
  (¬ x_43 = 0 →
  P_80 (0 : Int32) hp_41 nx_42))))) ∧
  ((x_35 = (-1 : Int32) →
  P_68 x3 (0 : Int32) (0 : Int32) hp_20 nx_21) ∧
  (¬ x_35 = (-1 : Int32) →
  (zgR hp_20 (some h0) [5] 10 fun r_47 =>
  (zaI (g.2.1 0) hp_20 r_47 fun a_48 n_49 f_50 => vp_in (((2 : Int32) * x1) + (1 : Int32)) n_49 ∧ ∀ x_51 : Int32, x_51 = f_50 (((2 : Int32) * x1) + (1 : Int32)).toNatClampNeg →
  P_68 x3 (0 : Int32) (x_51 - (1 : Int32)) hp_20 nx_21)))))))))))))))))))))))
set_option maxHeartbeats 40000000 in
theorem met_X5_refusal {l : Launch} {g : zG} {d : Nat} {h0 : Nat} {x1 : Int32} {x2 : Int32} {x3 : Int32} {hp : zHp} {nx : Nat} {Post : Int32 → zHp → Nat → Prop} (hw : wp_X5_refusal l g d h0 x1 x2 x3 hp nx Post) : zMt l g yX5_refusal cX5_refusal 4 (some .int) (d + 1) 0 0 [.ref h0, .int x1, .int x2, .int x3] hp nx (zQi g Post) := by
  refine z_start (by decide) (Nat.le_of_ble_eq_true rfl) ?_
  intro p e s m below meth c hk hr hin hH hz ls hl
  have hx := hk.1.1
  have hb := hk.1.2.1
  have hown := hk.1.2.2.2.1
  have hts := hk.1.2.2.2.2
  have hS : va_S (zAd g) s.heap s.heap [] := va_S.rf
  have hl : lv_has ls 4 [(0, va_rf (some h0)), (1, .int x1), (2, .int x2), (3, .int x3)] := hl
  unfold wp_X5_refusal at hw
  refine lv_iload_n hx hb dX5_refusal_0 rfl (lv_at hl 1 rfl) ?_
  refine zr_calli (zr_runS (As := [.int x1]) hk hH hz hS hl.1 hw (va_cwS 1 hts (lw_S q3181 q3182 q162 q3183) rfl rfl rfl (by decide +kernel) (z_room (Nat.le_of_ble_eq_true rfl))) rfl rfl (Nat.le_of_ble_eq_true rfl) dX5_refusal_1 ⟨Nat.le_of_ble_eq_true rfl, Nat.le_of_ble_eq_true rfl⟩) hS (fun x_3 hp_1 nx_2 hw H locs hH hz hS => ?_)
  refine lv_if_ne (tgt := 10) hx hb dX5_refusal_4 (by decide) (fun hc => ?_) (fun hc => ?_)
  · have hw := hw.2 hc
    refine zr_aload_n (r := some h0) hx hb dX5_refusal_10 rfl (lv_at hl 0 rfl) ?_
    obtain ⟨a_4, ci_5, fs_6, r_7, er, he, hc, hv, hw⟩ := zgR_e hw
    refine zw_get hk hH er he hv (fk_X5_34 hc) dX5_refusal_11 ?_
    refine lv_iload_n hx hb dX5_refusal_14 rfl (lv_at hl 1 rfl) ?_
    obtain ⟨a_8, n_9, f_10, er, he, hi, hw⟩ := zaI_e hw
    have hw := hw _ rfl
    refine zw_zald hk hH er he hi dX5_refusal_15 ?_
    generalize f_10 x1.toNatClampNeg = x_11 at hw ⊢
    refine lv_if_ne (tgt := 22) hx hb dX5_refusal_16 (by decide) (fun hc => ?_) (fun hc => ?_)
    · have hw := hw.2 hc
      refine lv_iload_n hx hb dX5_refusal_22 rfl (lv_at hl 2 rfl) ?_
      refine lv_iconst (v := (0 : Int32)) hx hb dX5_refusal_23 (by decide) ?_
      refine zr_aload_n (r := some h0) hx hb dX5_refusal_24 rfl (lv_at hl 0 rfl) ?_
      obtain ⟨a_12, ci_13, fs_14, r_15, er, he, hc, hv, hw⟩ := zgR_e hw
      refine zw_get hk hH er he hv (fk_X5_46 hc) dX5_refusal_25 ?_
      refine lv_iconst (v := (2 : Int32)) hx hb dX5_refusal_28 (by decide) ?_
      refine lv_iload_n hx hb dX5_refusal_29 rfl (lv_at hl 1 rfl) ?_
      refine lv_imul hx hb dX5_refusal_30 ?_
      obtain ⟨a_16, n_17, f_18, er, he, hi, hw⟩ := zaI_e hw
      have hw := hw _ rfl
      refine zw_iald hk hH er he hi dX5_refusal_31 ?_
      generalize f_18 ((2 : Int32) * x1).toNatClampNeg = x_19 at hw ⊢
      refine lv_iconst (v := (1 : Int32)) hx hb dX5_refusal_32 (by decide) ?_
      refine lv_isub hx hb dX5_refusal_33 ?_
      refine zr_calli (zr_runS (As := [.int x2, .int (0 : Int32), .int (x_19 - (1 : Int32))]) hk hH hz hS hl.1 hw (va_cwS 3 hts (lw_S q2911 q2912 q162 q2913) rfl rfl rfl (by decide +kernel) (z_room (Nat.le_of_ble_eq_true rfl))) rfl rfl (Nat.le_of_ble_eq_true rfl) dX5_refusal_34 ⟨Nat.le_of_ble_eq_true rfl, Nat.le_of_ble_eq_true rfl⟩) hS (fun x_22 hp_20 nx_21 hw H locs hH hz hS => ?_)
      obtain ⟨P_80, hP_80, hw⟩ := hw
      have hJ_80 : ∀ (x_23 : Int32) (hp_24 : zHp) (nx_25 : Nat) (H : Heap) (locs : List Loc) (ls : Array Slot), P_80 x_23 hp_24 nx_25 → lv_has ls 4 [(0, va_rf (some h0)), (1, .int x1), (2, .int x2), (3, .int x3)] → zHd g hp_24 H → H.size = nx_25 → va_S (zAd g) s.heap H locs → W p l e (zrm (d + 1) 0 0) s m ([.ref h0, .int x1, .int x2, .int x3] : List Value).toArray below meth c H locs 0 0 (MQ below (zQi g Post) ([.ref h0, .int x1, .int x2, .int x3] : List Value).toArray s 0 0 (zAd g)) (F0 m 80 ls [.int x_23]) := by
        intro x_23 hp_24 nx_25 H locs ls hw hl hH hz hS
        have hw := hP_80 x_23 hp_24 nx_25 hw
        exact zr_iret hk hr hH hz hS hw (Nat.le_of_ble_eq_true rfl) (Nat.le_of_ble_eq_true rfl) dX5_refusal_80
      obtain ⟨P_78, hP_78, hw⟩ := hw
      have hJ_78 : ∀ (hp_26 : zHp) (nx_27 : Nat) (H : Heap) (locs : List Loc) (ls : Array Slot), P_78 hp_26 nx_27 → lv_has ls 4 [(0, va_rf (some h0)), (1, .int x1), (2, .int x2), (3, .int x3)] → zHd g hp_26 H → H.size = nx_27 → va_S (zAd g) s.heap H locs → W p l e (zrm (d + 1) 0 0) s m ([.ref h0, .int x1, .int x2, .int x3] : List Value).toArray below meth c H locs 0 0 (MQ below (zQi g Post) ([.ref h0, .int x1, .int x2, .int x3] : List Value).toArray s 0 0 (zAd g)) (F0 m 78 ls []) := by
        intro hp_26 nx_27 H locs ls hw hl hH hz hS
        have hw := hP_78 hp_26 nx_27 hw
        refine lv_bipush (v := (-2 : Int32)) hx hb dX5_refusal_78 (by decide) ?_
        exact hJ_80 (-2 : Int32) hp_26 nx_27 _ _ _ hw hl hH hz hS
      refine lv_if_eq (tgt := 78) hx hb dX5_refusal_37 (by decide) (fun hc => ?_) (fun hc => ?_)
      · have hw := hw.1 hc
        exact hJ_78 hp_20 nx_21 _ _ _ hw hl hH hz hS
      · have hw := hw.2 hc
        refine lv_iload_n hx hb dX5_refusal_40 rfl (lv_at hl 3 rfl) ?_
        refine lv_iconst (v := (0 : Int32)) hx hb dX5_refusal_41 (by decide) ?_
        refine zr_aload_n (r := some h0) hx hb dX5_refusal_42 rfl (lv_at hl 0 rfl) ?_
        obtain ⟨a_28, ci_29, fs_30, r_31, er, he, hc, hv, hw⟩ := zgR_e hw
        refine zw_get hk hH er he hv (fk_X5_43 hc) dX5_refusal_43 ?_
        refine lv_iload_n hx hb dX5_refusal_46 rfl (lv_at hl 1 rfl) ?_
        obtain ⟨a_32, n_33, f_34, er, he, hi, hw⟩ := zaI_e hw
        have hw := hw _ rfl
        refine zw_iald hk hH er he hi dX5_refusal_47 ?_
        generalize f_34 x1.toNatClampNeg = x_35 at hw ⊢
        refine lv_iconst (v := (-1 : Int32)) hx hb dX5_refusal_48 (by decide) ?_
        obtain ⟨P_68, hP_68, hw⟩ := hw
        have hJ_68 : ∀ (x_36 : Int32) (x_37 : Int32) (x_38 : Int32) (hp_39 : zHp) (nx_40 : Nat) (H : Heap) (locs : List Loc) (ls : Array Slot), P_68 x_36 x_37 x_38 hp_39 nx_40 → lv_has ls 4 [(0, va_rf (some h0)), (1, .int x1), (2, .int x2), (3, .int x3)] → zHd g hp_39 H → H.size = nx_40 → va_S (zAd g) s.heap H locs → W p l e (zrm (d + 1) 0 0) s m ([.ref h0, .int x1, .int x2, .int x3] : List Value).toArray below meth c H locs 0 0 (MQ below (zQi g Post) ([.ref h0, .int x1, .int x2, .int x3] : List Value).toArray s 0 0 (zAd g)) (F0 m 68 ls [.int x_38, .int x_37, .int x_36]) := by
          intro x_36 x_37 x_38 hp_39 nx_40 H locs ls hw hl hH hz hS
          have hw := hP_68 x_36 x_37 x_38 hp_39 nx_40 hw
          refine zr_calli (zr_runS (As := [.int x_36, .int x_37, .int x_38]) hk hH hz hS hl.1 hw (va_cwS 3 hts (lw_S q2911 q2912 q162 q2913) rfl rfl rfl (by decide +kernel) (z_room (Nat.le_of_ble_eq_true rfl))) rfl rfl (Nat.le_of_ble_eq_true rfl) dX5_refusal_68 ⟨Nat.le_of_ble_eq_true rfl, Nat.le_of_ble_eq_true rfl⟩) hS (fun x_43 hp_41 nx_42 hw H locs hH hz hS => ?_)
          refine lv_if_eq (tgt := 78) hx hb dX5_refusal_71 (by decide) (fun hc => ?_) (fun hc => ?_)
          · have hw := hw.1 hc
            exact hJ_78 hp_41 nx_42 _ _ _ hw hl hH hz hS
          · have hw := hw.2 hc
            refine lv_iconst (v := (0 : Int32)) hx hb dX5_refusal_74 (by decide) ?_
            refine lv_goto (tgt := 80) hx hb dX5_refusal_75 (by decide) ?_
            exact hJ_80 (0 : Int32) hp_41 nx_42 _ _ _ hw hl hH hz hS
        refine lv_icmp_ne (tgt := 56) hx hb dX5_refusal_49 (by decide) (fun hc => ?_) (fun hc => ?_)
        · have hw := hw.2 hc
          refine zr_aload_n (r := some h0) hx hb dX5_refusal_56 rfl (lv_at hl 0 rfl) ?_
          obtain ⟨a_44, ci_45, fs_46, r_47, er, he, hc, hv, hw⟩ := zgR_e hw
          refine zw_get hk hH er he hv (fk_X5_46 hc) dX5_refusal_57 ?_
          refine lv_iconst (v := (2 : Int32)) hx hb dX5_refusal_60 (by decide) ?_
          refine lv_iload_n hx hb dX5_refusal_61 rfl (lv_at hl 1 rfl) ?_
          refine lv_imul hx hb dX5_refusal_62 ?_
          refine lv_iconst (v := (1 : Int32)) hx hb dX5_refusal_63 (by decide) ?_
          refine lv_iadd hx hb dX5_refusal_64 ?_
          obtain ⟨a_48, n_49, f_50, er, he, hi, hw⟩ := zaI_e hw
          have hw := hw _ rfl
          refine zw_iald hk hH er he hi dX5_refusal_65 ?_
          generalize f_50 (((2 : Int32) * x1) + (1 : Int32)).toNatClampNeg = x_51 at hw ⊢
          refine lv_iconst (v := (1 : Int32)) hx hb dX5_refusal_66 (by decide) ?_
          refine lv_isub hx hb dX5_refusal_67 ?_
          exact hJ_68 x3 (0 : Int32) (x_51 - (1 : Int32)) hp_20 nx_21 _ _ _ hw hl hH hz hS
        · have hw := hw.1 hc
          refine lv_iconst (v := (0 : Int32)) hx hb dX5_refusal_52 (by decide) ?_
          refine lv_goto (tgt := 68) hx hb dX5_refusal_53 (by decide) ?_
          exact hJ_68 x3 (0 : Int32) (0 : Int32) hp_20 nx_21 _ _ _ hw hl hH hz hS
    · have hw := hw.1 hc
      refine lv_bipush (v := (-3 : Int32)) hx hb dX5_refusal_19 (by decide) ?_
      exact zr_iret hk hr hH hz hS hw (Nat.le_of_ble_eq_true rfl) (Nat.le_of_ble_eq_true rfl) dX5_refusal_21
  · have hw := hw.1 hc
    refine lv_bipush (v := (-2 : Int32)) hx hb dX5_refusal_7 (by decide) ?_
    exact zr_iret hk hr hH hz hS hw (Nat.le_of_ble_eq_true rfl) (Nat.le_of_ble_eq_true rfl) dX5_refusal_9
def wp_X5_tellCaseNow (l : Launch) (g : zG) (d : Nat) (h0 : Nat) (x1 : Int32) (x2 : Int32) (x3 : Int32) (hp : zHp) (nx : Nat) (Post : zHp → Nat → Prop) : Prop :=
  (zpt g hp (some h0) [5] 18 (.int (0 : Int32)) fun hp_4 =>
  (zpt g hp_4 (some h0) [5] 26 (.int (0 : Int32)) fun hp_8 =>
  (zo hp_8 (some h0) [5] fun a_11 ci_12 fs_13 => zMt l g yX5_tellCase cX5_tellCase 12 none d 0 0 (.ref a_11 :: [.int x1, .int x2, .int x3]) hp_8 nx (zQv g fun hp_9 nx_10 =>
  (Post hp_9 nx_10)))))
set_option maxHeartbeats 40000000 in
theorem met_X5_tellCaseNow {l : Launch} {g : zG} {d : Nat} {h0 : Nat} {x1 : Int32} {x2 : Int32} {x3 : Int32} {hp : zHp} {nx : Nat} {Post : zHp → Nat → Prop} (hw : wp_X5_tellCaseNow l g d h0 x1 x2 x3 hp nx Post) : zMt l g yX5_tellCaseNow cX5_tellCaseNow 4 none (d + 1) 0 0 [.ref h0, .int x1, .int x2, .int x3] hp nx (zQv g Post) := by
  refine z_start (by decide) (Nat.le_of_ble_eq_true rfl) ?_
  intro p e s m below meth c hk hr hin hH hz ls hl
  have hx := hk.1.1
  have hb := hk.1.2.1
  have hown := hk.1.2.2.2.1
  have hts := hk.1.2.2.2.2
  have hS : va_S (zAd g) s.heap s.heap [] := va_S.rf
  have hl : lv_has ls 4 [(0, va_rf (some h0)), (1, .int x1), (2, .int x2), (3, .int x3)] := hl
  unfold wp_X5_tellCaseNow at hw
  refine zr_aload_n (r := some h0) hx hb dX5_tellCaseNow_0 rfl (lv_at hl 0 rfl) ?_
  refine lv_iconst (v := (0 : Int32)) hx hb dX5_tellCaseNow_1 (by decide) ?_
  obtain ⟨a_1, ci_2, fs_3, hp_4, er, he, hc, hA, hkl, eh, hw⟩ := zpt_e hw
  refine zw_put hk hH hz hS er he hA hkl eh (fp_X5_247 hc) rfl rfl dX5_tellCaseNow_2 (fun H locs hH hz hS => ?_)
  refine zr_aload_n (r := some h0) hx hb dX5_tellCaseNow_5 rfl (lv_at hl 0 rfl) ?_
  refine lv_iconst (v := (0 : Int32)) hx hb dX5_tellCaseNow_6 (by decide) ?_
  obtain ⟨a_5, ci_6, fs_7, hp_8, er, he, hc, hA, hkl, eh, hw⟩ := zpt_e hw
  refine zw_put hk hH hz hS er he hA hkl eh (fp_X5_243 hc) rfl rfl dX5_tellCaseNow_7 (fun H locs hH hz hS => ?_)
  refine zr_aload_n (r := some h0) hx hb dX5_tellCaseNow_10 rfl (lv_at hl 0 rfl) ?_
  refine lv_iload_n hx hb dX5_tellCaseNow_11 rfl (lv_at hl 1 rfl) ?_
  refine lv_iload_n hx hb dX5_tellCaseNow_12 rfl (lv_at hl 2 rfl) ?_
  refine lv_iload_n hx hb dX5_tellCaseNow_13 rfl (lv_at hl 3 rfl) ?_
  obtain ⟨a_11, ci_12, fs_13, er, he, hc, hw⟩ := zo_e hw
  obtain rfl := List.mem_singleton.mp hc
  refine zr_callv (zw_runV (As := [.int x1, .int x2, .int x3]) hk hH hz hS hl.1 er hw (cwV 3 hts (lw_V q3019 q3021 qs87 q162 q3022) rfl rfl rfl (by decide +kernel) (z_room (Nat.le_of_ble_eq_true rfl))) he rfl rfl rfl (Nat.le_of_ble_eq_true rfl) dX5_tellCaseNow_14 ⟨Nat.le_of_ble_eq_true rfl, Nat.le_of_ble_eq_true rfl⟩) hS (fun hp_9 nx_10 hw H locs hH hz hS => ?_)
  exact zr_vret hk hr hH hz hS hw (Nat.le_of_ble_eq_true rfl) (Nat.le_of_ble_eq_true rfl) dX5_tellCaseNow_17
theorem fk_X5_289 {ci : Nat} (h : ci ∈ [5]) : zFk "WhatIfSheetModel" 289 ci 32 := by
  simp only [List.mem_cons, List.not_mem_nil, or_false] at h
  rcases h with rfl
  · exact ⟨RX5, TX5, 76, rfl, by decide, q2706⟩
def wp_X5_blame (l : Launch) (g : zG) (d : Nat) (h0 : Nat) (x1 : Int32) (x2 : Int32) (x3 : Int32) (hp : zHp) (nx : Nat) (Post : Int32 → zHp → Nat → Prop) : Prop :=
  (zo hp (some h0) [5] fun a_13 ci_14 fs_15 => zMt l g yX5_refusal cX5_refusal 4 (some .int) d 0 0 (.ref a_13 :: [.int x1, .int x2, .int x3]) hp nx (zQi g fun x_3 hp_1 nx_2 =>
  ((x_3 = 0 →
  (zo hp_1 (some h0) [5] fun a_10 ci_11 fs_12 => zMt l g yX5_tellCaseNow cX5_tellCaseNow 4 none d 0 0 (.ref a_10 :: [.int x1, .int x2, .int x3]) hp_1 nx_2 (zQv g fun hp_4 nx_5 =>
  (zgI hp_4 (some h0) [5] 32 fun x_9 =>
  (Post x_9 hp_4 nx_5))))) ∧
  (¬ x_3 = 0 →
  (Post x_3 hp_1 nx_2)))))
set_option maxHeartbeats 40000000 in
theorem met_X5_blame {l : Launch} {g : zG} {d : Nat} {h0 : Nat} {x1 : Int32} {x2 : Int32} {x3 : Int32} {hp : zHp} {nx : Nat} {Post : Int32 → zHp → Nat → Prop} (hw : wp_X5_blame l g d h0 x1 x2 x3 hp nx Post) : zMt l g yX5_blame cX5_blame 5 (some .int) (d + 1) 0 0 [.ref h0, .int x1, .int x2, .int x3] hp nx (zQi g Post) := by
  refine z_start (by decide) (Nat.le_of_ble_eq_true rfl) ?_
  intro p e s m below meth c hk hr hin hH hz ls hl
  have hx := hk.1.1
  have hb := hk.1.2.1
  have hown := hk.1.2.2.2.1
  have hts := hk.1.2.2.2.2
  have hS : va_S (zAd g) s.heap s.heap [] := va_S.rf
  have hl : lv_has ls 5 [(0, va_rf (some h0)), (1, .int x1), (2, .int x2), (3, .int x3)] := hl
  unfold wp_X5_blame at hw
  refine zr_aload_n (r := some h0) hx hb dX5_blame_0 rfl (lv_at hl 0 rfl) ?_
  refine lv_iload_n hx hb dX5_blame_1 rfl (lv_at hl 1 rfl) ?_
  refine lv_iload_n hx hb dX5_blame_2 rfl (lv_at hl 2 rfl) ?_
  refine lv_iload_n hx hb dX5_blame_3 rfl (lv_at hl 3 rfl) ?_
  obtain ⟨a_13, ci_14, fs_15, er, he, hc, hw⟩ := zo_e hw
  obtain rfl := List.mem_singleton.mp hc
  refine zr_calli (zw_runV (As := [.int x1, .int x2, .int x3]) hk hH hz hS hl.1 er hw (cwV 3 hts (lw_V q3209 q3211 qs115 q162 q3212) rfl rfl rfl (by decide +kernel) (z_room (Nat.le_of_ble_eq_true rfl))) he rfl rfl rfl (Nat.le_of_ble_eq_true rfl) dX5_blame_4 ⟨Nat.le_of_ble_eq_true rfl, Nat.le_of_ble_eq_true rfl⟩) hS (fun x_3 hp_1 nx_2 hw H locs hH hz hS => ?_)
  refine lv_istore (lv' := [(4, .int x_3), (0, va_rf (some h0)), (1, .int x1), (2, .int x2), (3, .int x3)]) hx hb dX5_blame_7 hl (by decide) (by first | rfl | simp [List.filter_cons, z_cat, z_catI, z_catJ, z_catF, z_catD]) (fun ls hl => ?_)
  refine lv_iload hx hb dX5_blame_9 (lv_at hl 0 rfl) ?_
  refine lv_if_eq (tgt := 17) hx hb dX5_blame_11 (by decide) (fun hc => ?_) (fun hc => ?_)
  · have hw := hw.1 hc
    refine zr_aload_n (r := some h0) hx hb dX5_blame_17 rfl (lv_at hl 1 rfl) ?_
    refine lv_iload_n hx hb dX5_blame_18 rfl (lv_at hl 2 rfl) ?_
    refine lv_iload_n hx hb dX5_blame_19 rfl (lv_at hl 3 rfl) ?_
    refine lv_iload_n hx hb dX5_blame_20 rfl (lv_at hl 4 rfl) ?_
    obtain ⟨a_10, ci_11, fs_12, er, he, hc, hw⟩ := zo_e hw
    obtain rfl := List.mem_singleton.mp hc
    refine zr_callv (zw_runV (As := [.int x1, .int x2, .int x3]) hk hH hz hS hl.1 er hw (cwV 3 hts (lw_V q3213 q3215 qs116 q162 q3216) rfl rfl rfl (by decide +kernel) (z_room (Nat.le_of_ble_eq_true rfl))) he rfl rfl rfl (Nat.le_of_ble_eq_true rfl) dX5_blame_21 ⟨Nat.le_of_ble_eq_true rfl, Nat.le_of_ble_eq_true rfl⟩) hS (fun hp_4 nx_5 hw H locs hH hz hS => ?_)
    refine zr_aload_n (r := some h0) hx hb dX5_blame_24 rfl (lv_at hl 1 rfl) ?_
    obtain ⟨a_6, ci_7, fs_8, x_9, er, he, hc, hv, hw⟩ := zgI_e hw
    refine zw_get hk hH er he hv (fk_X5_289 hc) dX5_blame_25 ?_
    exact zr_iret hk hr hH hz hS hw (Nat.le_of_ble_eq_true rfl) (Nat.le_of_ble_eq_true rfl) dX5_blame_28
  · have hw := hw.2 hc
    refine lv_iload hx hb dX5_blame_14 (lv_at hl 0 rfl) ?_
    exact zr_iret hk hr hH hz hS hw (Nat.le_of_ble_eq_true rfl) (Nat.le_of_ble_eq_true rfl) dX5_blame_16
def wp_X5_adds (l : Launch) (g : zG) (d : Nat) (h0 : Nat) (x1 : Int32) (x2 : Int32) (hp : zHp) (nx : Nat) (Post : Int64 → zHp → Nat → Prop) : Prop :=
  (zMt l g yX5_isTable cX5_isTable 1 (some .boolean) d 0 0 [.int x1] hp nx (zQi g fun x_3 hp_1 nx_2 =>
  (∃ P_16 : zHp → Nat → Prop, (∀ (hp_4 : zHp) (nx_5 : Nat), P_16 hp_4 nx_5 →
  (Post (-2 : Int64) hp_4 nx_5)) ∧
  ((x_3 = 0 →
  P_16 hp_1 nx_2) ∧
  (¬ x_3 = 0 →
  (zMt l g yX5_in cX5_in 3 (some .boolean) d 0 0 [.int x2, .int (0 : Int32), .int (4 : Int32)] hp_1 nx_2 (zQi g fun x_8 hp_6 nx_7 =>
  ((x_8 = 0 →
  P_16 hp_6 nx_7) ∧
  (¬ x_8 = 0 →
  (zgR hp_6 (some h0) [5] 6 fun r_12 =>
  (zaI (g.2.1 3) hp_6 r_12 fun a_13 n_14 f_15 => vp_in x1 n_14 ∧ ∀ x_16 : Int32, x_16 = f_15 x1.toNatClampNeg →
  ((x_16 = 0 →
  (Post (-3 : Int64) hp_6 nx_7)) ∧
  (¬ x_16 = 0 →
  (zpt g hp_6 (some h0) [5] 18 (.int (0 : Int32)) fun hp_20 =>
  (zpt g hp_20 (some h0) [5] 26 (.int (0 : Int32)) fun hp_24 =>
  (zo hp_24 (some h0) [5] fun a_71 ci_72 fs_73 => zMt l g yX5_afresh cX5_afresh 2 none d 0 0 (.ref a_71 :: []) hp_24 nx_7 (zQv g fun hp_25 nx_26 =>
  (zo hp_25 (some h0) [5] fun a_68 ci_69 fs_70 => zMt l g yX5_sumUp cX5_sumUp 14 none d 0 0 (.ref a_68 :: [.int x1]) hp_25 nx_26 (zQv g fun hp_27 nx_28 =>
  ((x2 = (4 : Int32) →
  (zgR hp_27 (some h0) [5] 24 fun r_59 =>
  (zaR (g.2.1 15) hp_27 r_59 fun a_60 n_61 f_62 => vp_in (0 : Int32) n_61 ∧ ∀ r_63 : Option Nat, r_63 = f_62 (0 : Int32).toNatClampNeg →
  (zaD (g.2.1 1) hp_27 r_63 fun a_64 n_65 f_66 => vp_in (((5 : Int32) * x1) + (4 : Int32)) n_65 ∧ ∀ x_67 : UInt64, x_67 = f_66 (((5 : Int32) * x1) + (4 : Int32)).toNatClampNeg →
  (Post (FP.d2l x_67) hp_27 nx_28))))) ∧
  (¬ x2 = (4 : Int32) →
  (zgR hp_27 (some h0) [5] 24 fun r_32 =>
  (zaR (g.2.1 15) hp_27 r_32 fun a_33 n_34 f_35 => vp_in (0 : Int32) n_34 ∧ ∀ r_36 : Option Nat, r_36 = f_35 (0 : Int32).toNatClampNeg →
  (zaD (g.2.1 1) hp_27 r_36 fun a_37 n_38 f_39 => vp_in (((5 : Int32) * x1) + x2) n_38 ∧ ∀ x_40 : UInt64, x_40 = f_39 (((5 : Int32) * x1) + x2).toNatClampNeg →
  (zgR hp_27 (some h0) [5] 25 fun r_44 =>
  (zaR (g.2.1 14) hp_27 r_44 fun a_45 n_46 f_47 => vp_in (0 : Int32) n_46 ∧ ∀ r_48 : Option Nat, r_48 = f_47 (0 : Int32).toNatClampNeg →
  (zaI (g.2.1 0) hp_27 r_48 fun a_49 n_50 f_51 => vp_in (((5 : Int32) * x1) + x2) n_50 ∧ ∀ x_52 : Int32, x_52 = f_51 (((5 : Int32) * x1) + x2).toNatClampNeg →
  (zMt l g yX5_answer cX5_answer 3 (some .long) d 0 0 [.double x_40, .int x_52] hp_27 nx_28 (zQl g fun x_55 hp_53 nx_54 =>
  (Post x_55 hp_53 nx_54))))))))))))))))))))))))))))))
set_option maxHeartbeats 40000000 in
theorem met_X5_adds {l : Launch} {g : zG} {d : Nat} {h0 : Nat} {x1 : Int32} {x2 : Int32} {hp : zHp} {nx : Nat} {Post : Int64 → zHp → Nat → Prop} (hw : wp_X5_adds l g d h0 x1 x2 hp nx Post) : zMt l g yX5_adds cX5_adds 3 (some .long) (d + 1) 0 0 [.ref h0, .int x1, .int x2] hp nx (zQl g Post) := by
  refine z_start (by decide) (Nat.le_of_ble_eq_true rfl) ?_
  intro p e s m below meth c hk hr hin hH hz ls hl
  have hx := hk.1.1
  have hb := hk.1.2.1
  have hown := hk.1.2.2.2.1
  have hts := hk.1.2.2.2.2
  have hS : va_S (zAd g) s.heap s.heap [] := va_S.rf
  have hl : lv_has ls 3 [(0, va_rf (some h0)), (1, .int x1), (2, .int x2)] := hl
  unfold wp_X5_adds at hw
  refine lv_iload_n hx hb dX5_adds_0 rfl (lv_at hl 1 rfl) ?_
  refine zr_calli (zr_runS (As := [.int x1]) hk hH hz hS hl.1 hw (va_cwS 1 hts (lw_S q3181 q3182 q162 q3183) rfl rfl rfl (by decide +kernel) (z_room (Nat.le_of_ble_eq_true rfl))) rfl rfl (Nat.le_of_ble_eq_true rfl) dX5_adds_1 ⟨Nat.le_of_ble_eq_true rfl, Nat.le_of_ble_eq_true rfl⟩) hS (fun x_3 hp_1 nx_2 hw H locs hH hz hS => ?_)
  obtain ⟨P_16, hP_16, hw⟩ := hw
  have hJ_16 : ∀ (hp_4 : zHp) (nx_5 : Nat) (H : Heap) (locs : List Loc) (ls : Array Slot), P_16 hp_4 nx_5 → lv_has ls 3 [(0, va_rf (some h0)), (1, .int x1), (2, .int x2)] → zHd g hp_4 H → H.size = nx_5 → va_S (zAd g) s.heap H locs → W p l e (zrm (d + 1) 0 0) s m ([.ref h0, .int x1, .int x2] : List Value).toArray below meth c H locs 0 0 (MQ below (zQl g Post) ([.ref h0, .int x1, .int x2] : List Value).toArray s 0 0 (zAd g)) (F0 m 16 ls []) := by
    intro hp_4 nx_5 H locs ls hw hl hH hz hS
    have hw := hP_16 hp_4 nx_5 hw
    refine lv_ldc2 hx hb hown (hts _ q3037) dX5_adds_16 ?_
    exact zr_lret hk hr hH hz hS hw (Nat.le_of_ble_eq_true rfl) (Nat.le_of_ble_eq_true rfl) dX5_adds_19
  refine lv_if_eq (tgt := 16) hx hb dX5_adds_4 (by decide) (fun hc => ?_) (fun hc => ?_)
  · have hw := hw.1 hc
    exact hJ_16 hp_1 nx_2 _ _ _ hw hl hH hz hS
  · have hw := hw.2 hc
    refine lv_iload_n hx hb dX5_adds_7 rfl (lv_at hl 2 rfl) ?_
    refine lv_iconst (v := (0 : Int32)) hx hb dX5_adds_8 (by decide) ?_
    refine lv_iconst (v := (4 : Int32)) hx hb dX5_adds_9 (by decide) ?_
    refine zr_calli (zr_runS (As := [.int x2, .int (0 : Int32), .int (4 : Int32)]) hk hH hz hS hl.1 hw (va_cwS 3 hts (lw_S q2911 q2912 q162 q2913) rfl rfl rfl (by decide +kernel) (z_room (Nat.le_of_ble_eq_true rfl))) rfl rfl (Nat.le_of_ble_eq_true rfl) dX5_adds_10 ⟨Nat.le_of_ble_eq_true rfl, Nat.le_of_ble_eq_true rfl⟩) hS (fun x_8 hp_6 nx_7 hw H locs hH hz hS => ?_)
    refine lv_if_ne (tgt := 20) hx hb dX5_adds_13 (by decide) (fun hc => ?_) (fun hc => ?_)
    · have hw := hw.2 hc
      refine zr_aload_n (r := some h0) hx hb dX5_adds_20 rfl (lv_at hl 0 rfl) ?_
      obtain ⟨a_9, ci_10, fs_11, r_12, er, he, hc, hv, hw⟩ := zgR_e hw
      refine zw_get hk hH er he hv (fk_X5_34 hc) dX5_adds_21 ?_
      refine lv_iload_n hx hb dX5_adds_24 rfl (lv_at hl 1 rfl) ?_
      obtain ⟨a_13, n_14, f_15, er, he, hi, hw⟩ := zaI_e hw
      have hw := hw _ rfl
      refine zw_zald hk hH er he hi dX5_adds_25 ?_
      generalize f_15 x1.toNatClampNeg = x_16 at hw ⊢
      refine lv_if_ne (tgt := 33) hx hb dX5_adds_26 (by decide) (fun hc => ?_) (fun hc => ?_)
      · have hw := hw.2 hc
        refine zr_aload_n (r := some h0) hx hb dX5_adds_33 rfl (lv_at hl 0 rfl) ?_
        refine lv_iconst (v := (0 : Int32)) hx hb dX5_adds_34 (by decide) ?_
        obtain ⟨a_17, ci_18, fs_19, hp_20, er, he, hc, hA, hkl, eh, hw⟩ := zpt_e hw
        refine zw_put hk hH hz hS er he hA hkl eh (fp_X5_247 hc) rfl rfl dX5_adds_35 (fun H locs hH hz hS => ?_)
        refine zr_aload_n (r := some h0) hx hb dX5_adds_38 rfl (lv_at hl 0 rfl) ?_
        refine lv_iconst (v := (0 : Int32)) hx hb dX5_adds_39 (by decide) ?_
        obtain ⟨a_21, ci_22, fs_23, hp_24, er, he, hc, hA, hkl, eh, hw⟩ := zpt_e hw
        refine zw_put hk hH hz hS er he hA hkl eh (fp_X5_243 hc) rfl rfl dX5_adds_40 (fun H locs hH hz hS => ?_)
        refine zr_aload_n (r := some h0) hx hb dX5_adds_43 rfl (lv_at hl 0 rfl) ?_
        obtain ⟨a_71, ci_72, fs_73, er, he, hc, hw⟩ := zo_e hw
        obtain rfl := List.mem_singleton.mp hc
        refine zr_callv (zw_runV (As := []) hk hH hz hS hl.1 er hw (cwV 0 hts (lw_V q2999 q3001 qs82 q162 q3002) rfl rfl rfl (by decide +kernel) (z_room (Nat.le_of_ble_eq_true rfl))) he rfl rfl rfl (Nat.le_of_ble_eq_true rfl) dX5_adds_44 ⟨Nat.le_of_ble_eq_true rfl, Nat.le_of_ble_eq_true rfl⟩) hS (fun hp_25 nx_26 hw H locs hH hz hS => ?_)
        refine zr_aload_n (r := some h0) hx hb dX5_adds_47 rfl (lv_at hl 0 rfl) ?_
        refine lv_iload_n hx hb dX5_adds_48 rfl (lv_at hl 1 rfl) ?_
        obtain ⟨a_68, ci_69, fs_70, er, he, hc, hw⟩ := zo_e hw
        obtain rfl := List.mem_singleton.mp hc
        refine zr_callv (zw_runV (As := [.int x1]) hk hH hz hS hl.1 er hw (cwV 1 hts (lw_V q3015 q3017 qs86 q162 q3018) rfl rfl rfl (by decide +kernel) (z_room (Nat.le_of_ble_eq_true rfl))) he rfl rfl rfl (Nat.le_of_ble_eq_true rfl) dX5_adds_49 ⟨Nat.le_of_ble_eq_true rfl, Nat.le_of_ble_eq_true rfl⟩) hS (fun hp_27 nx_28 hw H locs hH hz hS => ?_)
        refine lv_iload_n hx hb dX5_adds_52 rfl (lv_at hl 2 rfl) ?_
        refine lv_iconst (v := (4 : Int32)) hx hb dX5_adds_53 (by decide) ?_
        refine lv_icmp_ne (tgt := 71) hx hb dX5_adds_54 (by decide) (fun hc => ?_) (fun hc => ?_)
        · have hw := hw.2 hc
          refine zr_aload_n (r := some h0) hx hb dX5_adds_71 rfl (lv_at hl 0 rfl) ?_
          obtain ⟨a_29, ci_30, fs_31, r_32, er, he, hc, hv, hw⟩ := zgR_e hw
          refine zw_get hk hH er he hv (fk_X5_87 hc) dX5_adds_72 ?_
          refine lv_iconst (v := (0 : Int32)) hx hb dX5_adds_75 (by decide) ?_
          obtain ⟨a_33, n_34, f_35, er, he, hi, hw⟩ := zaR_e hw
          have hw := hw _ rfl
          refine zw_aald hk hH 15 er he rfl rfl hi dX5_adds_76 ?_
          generalize f_35 (0 : Int32).toNatClampNeg = r_36 at hw ⊢
          refine lv_iconst (v := (5 : Int32)) hx hb dX5_adds_77 (by decide) ?_
          refine lv_iload_n hx hb dX5_adds_78 rfl (lv_at hl 1 rfl) ?_
          refine lv_imul hx hb dX5_adds_79 ?_
          refine lv_iload_n hx hb dX5_adds_80 rfl (lv_at hl 2 rfl) ?_
          refine lv_iadd hx hb dX5_adds_81 ?_
          obtain ⟨a_37, n_38, f_39, er, he, hi, hw⟩ := zaD_e hw
          have hw := hw _ rfl
          refine zw_dald hk hH er he hi dX5_adds_82 ?_
          generalize f_39 (((5 : Int32) * x1) + x2).toNatClampNeg = x_40 at hw ⊢
          refine zr_aload_n (r := some h0) hx hb dX5_adds_83 rfl (lv_at hl 0 rfl) ?_
          obtain ⟨a_41, ci_42, fs_43, r_44, er, he, hc, hv, hw⟩ := zgR_e hw
          refine zw_get hk hH er he hv (fk_X5_90 hc) dX5_adds_84 ?_
          refine lv_iconst (v := (0 : Int32)) hx hb dX5_adds_87 (by decide) ?_
          obtain ⟨a_45, n_46, f_47, er, he, hi, hw⟩ := zaR_e hw
          have hw := hw _ rfl
          refine zw_aald hk hH 14 er he rfl rfl hi dX5_adds_88 ?_
          generalize f_47 (0 : Int32).toNatClampNeg = r_48 at hw ⊢
          refine lv_iconst (v := (5 : Int32)) hx hb dX5_adds_89 (by decide) ?_
          refine lv_iload_n hx hb dX5_adds_90 rfl (lv_at hl 1 rfl) ?_
          refine lv_imul hx hb dX5_adds_91 ?_
          refine lv_iload_n hx hb dX5_adds_92 rfl (lv_at hl 2 rfl) ?_
          refine lv_iadd hx hb dX5_adds_93 ?_
          obtain ⟨a_49, n_50, f_51, er, he, hi, hw⟩ := zaI_e hw
          have hw := hw _ rfl
          refine zw_iald hk hH er he hi dX5_adds_94 ?_
          generalize f_51 (((5 : Int32) * x1) + x2).toNatClampNeg = x_52 at hw ⊢
          refine zr_calll (zr_runS (As := [.double x_40, .int x_52]) hk hH hz hS hl.1 hw (va_cwS 2 hts (lw_S q3046 q3047 q162 q3048) rfl rfl rfl (by decide +kernel) (z_room (Nat.le_of_ble_eq_true rfl))) rfl rfl (Nat.le_of_ble_eq_true rfl) dX5_adds_95 ⟨Nat.le_of_ble_eq_true rfl, Nat.le_of_ble_eq_true rfl⟩) hS (fun x_55 hp_53 nx_54 hw H locs hH hz hS => ?_)
          exact zr_lret hk hr hH hz hS hw (Nat.le_of_ble_eq_true rfl) (Nat.le_of_ble_eq_true rfl) dX5_adds_98
        · have hw := hw.1 hc
          refine zr_aload_n (r := some h0) hx hb dX5_adds_57 rfl (lv_at hl 0 rfl) ?_
          obtain ⟨a_56, ci_57, fs_58, r_59, er, he, hc, hv, hw⟩ := zgR_e hw
          refine zw_get hk hH er he hv (fk_X5_87 hc) dX5_adds_58 ?_
          refine lv_iconst (v := (0 : Int32)) hx hb dX5_adds_61 (by decide) ?_
          obtain ⟨a_60, n_61, f_62, er, he, hi, hw⟩ := zaR_e hw
          have hw := hw _ rfl
          refine zw_aald hk hH 15 er he rfl rfl hi dX5_adds_62 ?_
          generalize f_62 (0 : Int32).toNatClampNeg = r_63 at hw ⊢
          refine lv_iconst (v := (5 : Int32)) hx hb dX5_adds_63 (by decide) ?_
          refine lv_iload_n hx hb dX5_adds_64 rfl (lv_at hl 1 rfl) ?_
          refine lv_imul hx hb dX5_adds_65 ?_
          refine lv_iconst (v := (4 : Int32)) hx hb dX5_adds_66 (by decide) ?_
          refine lv_iadd hx hb dX5_adds_67 ?_
          obtain ⟨a_64, n_65, f_66, er, he, hi, hw⟩ := zaD_e hw
          have hw := hw _ rfl
          refine zw_dald hk hH er he hi dX5_adds_68 ?_
          generalize f_66 (((5 : Int32) * x1) + (4 : Int32)).toNatClampNeg = x_67 at hw ⊢
          refine lv_d2l hx hb dX5_adds_69 ?_
          exact zr_lret hk hr hH hz hS hw (Nat.le_of_ble_eq_true rfl) (Nat.le_of_ble_eq_true rfl) dX5_adds_70
      · have hw := hw.1 hc
        refine lv_ldc2 hx hb hown (hts _ q3058) dX5_adds_29 ?_
        exact zr_lret hk hr hH hz hS hw (Nat.le_of_ble_eq_true rfl) (Nat.le_of_ble_eq_true rfl) dX5_adds_32
    · have hw := hw.1 hc
      exact hJ_16 hp_6 nx_7 _ _ _ hw hl hH hz hS
theorem fk_X5_117 {ci : Nat} (h : ci ∈ [5]) : zFk "WhatIfSheetModel" 117 ci 49 := by
  simp only [List.mem_cons, List.not_mem_nil, or_false] at h
  rcases h with rfl
  · exact ⟨RX5, TX5, 76, rfl, by decide, q2723⟩
def wp_X5_asks (l : Launch) (g : zG) (d : Nat) (h0 : Nat) (x1 : Int32) (x2 : Int32) (hp : zHp) (nx : Nat) (Post : Int32 → zHp → Nat → Prop) : Prop :=
  (zMt l g yX5_isTable cX5_isTable 1 (some .boolean) d 0 0 [.int x1] hp nx (zQi g fun x_3 hp_1 nx_2 =>
  (∃ P_17 : zHp → Nat → Prop, (∀ (hp_4 : zHp) (nx_5 : Nat), P_17 hp_4 nx_5 →
  (Post (-2 : Int32) hp_4 nx_5)) ∧
  ((x_3 = 0 →
  P_17 hp_1 nx_2) ∧
  (¬ x_3 = 0 →
  (zMt l g yX5_in cX5_in 3 (some .boolean) d 0 0 [.int x2, .int (0 : Int32), .int (8 : Int32)] hp_1 nx_2 (zQi g fun x_8 hp_6 nx_7 =>
  ((x_8 = 0 →
  P_17 hp_6 nx_7) ∧
  (¬ x_8 = 0 →
  (zgR hp_6 (some h0) [5] 6 fun r_12 =>
  (zaI (g.2.1 3) hp_6 r_12 fun a_13 n_14 f_15 => vp_in x1 n_14 ∧ ∀ x_16 : Int32, x_16 = f_15 x1.toNatClampNeg →
  ((x_16 = 0 →
  (Post (-3 : Int32) hp_6 nx_7)) ∧
  (¬ x_16 = 0 →
  (((2 : Int32) ≤ x2 →
  ((x2 = (2 : Int32) →
  (zo hp_6 (some h0) [5] fun a_94 ci_95 fs_96 => zMt l g yX5_slice cX5_slice 5 (some .int) d 0 0 (.ref a_94 :: [.int x1]) hp_6 nx_7 (zQi g fun x_93 hp_91 nx_92 =>
  (Post x_93 hp_91 nx_92)))) ∧
  (¬ x2 = (2 : Int32) →
  ((x2 = (4 : Int32) →
  (zgR hp_6 (some h0) [5] 7 fun r_74 =>
  (zaI (g.2.1 0) hp_6 r_74 fun a_75 n_76 f_77 => vp_in x1 n_76 ∧ ∀ x_78 : Int32, x_78 = f_77 x1.toNatClampNeg →
  (zo hp_6 (some h0) [5] fun a_88 ci_89 fs_90 => zMt l g yX5_burdenNow cX5_burdenNow 3 (some .int) d 0 0 (.ref a_88 :: [.int x_78]) hp_6 nx_7 (zQi g fun x_81 hp_79 nx_80 =>
  (zo hp_79 (some h0) [5] fun a_85 ci_86 fs_87 => zMt l g yX5_burdenOfTable cX5_burdenOfTable 2 (some .int) d 0 0 (.ref a_85 :: [.int x1]) hp_79 nx_80 (zQi g fun x_84 hp_82 nx_83 =>
  (Post x_84 hp_82 nx_83)))))))) ∧
  (¬ x2 = (4 : Int32) →
  ((x2 = (5 : Int32) →
  (zgR hp_6 (some h0) [5] 10 fun r_66 =>
  (zaI (g.2.1 0) hp_6 r_66 fun a_67 n_68 f_69 => vp_in ((2 : Int32) * x1) n_68 ∧ ∀ x_70 : Int32, x_70 = f_69 ((2 : Int32) * x1).toNatClampNeg →
  (Post x_70 hp_6 nx_7)))) ∧
  (¬ x2 = (5 : Int32) →
  ((x2 = (6 : Int32) →
  (zgR hp_6 (some h0) [5] 9 fun r_47 =>
  (zaI (g.2.1 0) hp_6 r_47 fun a_48 n_49 f_50 => vp_in x1 n_49 ∧ ∀ x_51 : Int32, x_51 = f_50 x1.toNatClampNeg →
  (∃ P_129 : Int32 → zHp → Nat → Prop, (∀ (x_52 : Int32) (hp_53 : zHp) (nx_54 : Nat), P_129 x_52 hp_53 nx_54 →
  (Post x_52 hp_53 nx_54)) ∧
  ((x_51 = (-1 : Int32) →
  P_129 (0 : Int32) hp_6 nx_7) ∧
  (¬ x_51 = (-1 : Int32) →
  (zgR hp_6 (some h0) [5] 10 fun r_58 =>
  (zaI (g.2.1 0) hp_6 r_58 fun a_59 n_60 f_61 => vp_in (((2 : Int32) * x1) + (1 : Int32)) n_60 ∧ ∀ x_62 : Int32, x_62 = f_61 (((2 : Int32) * x1) + (1 : Int32)).toNatClampNeg →
  P_129 x_62 hp_6 nx_7)))))))) ∧
  (¬ x2 = (6 : Int32) →
  ((x2 ≤ (6 : Int32) →
  (∃ I_148 : Nat → Int32 → zHp → Nat → Prop, (∃ n_37, I_148 n_37 (0 : Int32) hp_6 nx_7) ∧ ∀ (n_20 : Nat) (x_17 : Int32) (hp_18 : zHp) (nx_19 : Nat), I_148 n_20 x_17 hp_18 nx_19 →
  (((6 : Int32) ≤ x_17 →
  (zo hp_18 (some h0) [5] fun a_24 ci_25 fs_26 => zMt l g yX5_toldLeast cX5_toldLeast 7 (some .int) d 0 0 (.ref a_24 :: [.int x1]) hp_18 nx_19 (zQi g fun x_23 hp_21 nx_22 =>
  (Post x_23 hp_21 nx_22)))) ∧
  (¬ (6 : Int32) ≤ x_17 →
  (zgR hp_18 (some h0) [5] 49 fun r_30 =>
  (zaI (g.2.1 3) hp_18 r_30 fun a_31 n_32 f_33 => vp_in x_17 n_32 ∧ zB g ≤ a_31 ∧ ∀ hp_34 : zHp, hp_34 = va_up hp_18 a_31 (some (.inl (g.2.1 3, n_32, .inl (va_up f_33 x_17.toNatClampNeg (vp_nar .boolean (0 : Int32)))))) →
  (∀ x_35 : Int32, x_35 = x_17 + (1 : Int32) →
  (∃ k_36, k_36 < n_20 ∧ I_148 k_36 x_35 hp_34 nx_19)))))))) ∧
  (¬ x2 ≤ (6 : Int32) →
  (zo hp_6 (some h0) [5] fun a_41 ci_42 fs_43 => zMt l g yX5_unlikeOnes cX5_unlikeOnes 8 (some .int) d 0 0 (.ref a_41 :: [.int x1, .int (x2 - (7 : Int32))]) hp_6 nx_7 (zQi g fun x_40 hp_38 nx_39 =>
  (Post x_40 hp_38 nx_39)))))))))))))) ∧
  (¬ (2 : Int32) ≤ x2 →
  (∃ P_48 : (Option Nat) → Int32 → Int32 → zHp → Nat → Prop, (∀ (r_97 : Option Nat) (x_98 : Int32) (x_99 : Int32) (hp_100 : zHp) (nx_101 : Nat), P_48 r_97 x_98 x_99 hp_100 nx_101 →
  (zo hp_100 r_97 [5] fun a_105 ci_106 fs_107 => zMt l g yX5_caseOf cX5_caseOf 9 (some .int) d 0 0 (.ref a_105 :: [.int x_98, .int x_99]) hp_100 nx_101 (zQi g fun x_104 hp_102 nx_103 =>
  (Post x_104 hp_102 nx_103)))) ∧
  ((x2 = 0 →
  P_48 (some h0) x1 (1 : Int32) hp_6 nx_7) ∧
  (¬ x2 = 0 →
  P_48 (some h0) x1 (0 : Int32) hp_6 nx_7))))))))))))))))))
set_option maxHeartbeats 40000000 in
theorem met_X5_asks {l : Launch} {g : zG} {d : Nat} {h0 : Nat} {x1 : Int32} {x2 : Int32} {hp : zHp} {nx : Nat} {Post : Int32 → zHp → Nat → Prop} (hw : wp_X5_asks l g d h0 x1 x2 hp nx Post) : zMt l g yX5_asks cX5_asks 4 (some .int) (d + 1) 0 0 [.ref h0, .int x1, .int x2] hp nx (zQi g Post) := by
  refine z_start (by decide) (Nat.le_of_ble_eq_true rfl) ?_
  intro p e s m below meth c hk hr hin hH hz ls hl
  have hx := hk.1.1
  have hb := hk.1.2.1
  have hown := hk.1.2.2.2.1
  have hts := hk.1.2.2.2.2
  have hS : va_S (zAd g) s.heap s.heap [] := va_S.rf
  have hl : lv_has ls 4 [(0, va_rf (some h0)), (1, .int x1), (2, .int x2)] := hl
  unfold wp_X5_asks at hw
  refine lv_iload_n hx hb dX5_asks_0 rfl (lv_at hl 1 rfl) ?_
  refine zr_calli (zr_runS (As := [.int x1]) hk hH hz hS hl.1 hw (va_cwS 1 hts (lw_S q3181 q3182 q162 q3183) rfl rfl rfl (by decide +kernel) (z_room (Nat.le_of_ble_eq_true rfl))) rfl rfl (Nat.le_of_ble_eq_true rfl) dX5_asks_1 ⟨Nat.le_of_ble_eq_true rfl, Nat.le_of_ble_eq_true rfl⟩) hS (fun x_3 hp_1 nx_2 hw H locs hH hz hS => ?_)
  obtain ⟨P_17, hP_17, hw⟩ := hw
  have hJ_17 : ∀ (hp_4 : zHp) (nx_5 : Nat) (H : Heap) (locs : List Loc) (ls : Array Slot), P_17 hp_4 nx_5 → lv_has ls 4 [(0, va_rf (some h0)), (1, .int x1), (2, .int x2)] → zHd g hp_4 H → H.size = nx_5 → va_S (zAd g) s.heap H locs → W p l e (zrm (d + 1) 0 0) s m ([.ref h0, .int x1, .int x2] : List Value).toArray below meth c H locs 0 0 (MQ below (zQi g Post) ([.ref h0, .int x1, .int x2] : List Value).toArray s 0 0 (zAd g)) (F0 m 17 ls []) := by
    intro hp_4 nx_5 H locs ls hw hl hH hz hS
    have hw := hP_17 hp_4 nx_5 hw
    refine lv_bipush (v := (-2 : Int32)) hx hb dX5_asks_17 (by decide) ?_
    exact zr_iret hk hr hH hz hS hw (Nat.le_of_ble_eq_true rfl) (Nat.le_of_ble_eq_true rfl) dX5_asks_19
  refine lv_if_eq (tgt := 17) hx hb dX5_asks_4 (by decide) (fun hc => ?_) (fun hc => ?_)
  · have hw := hw.1 hc
    exact hJ_17 hp_1 nx_2 _ _ _ hw hl hH hz hS
  · have hw := hw.2 hc
    refine lv_iload_n hx hb dX5_asks_7 rfl (lv_at hl 2 rfl) ?_
    refine lv_iconst (v := (0 : Int32)) hx hb dX5_asks_8 (by decide) ?_
    refine lv_bipush (v := (8 : Int32)) hx hb dX5_asks_9 (by decide) ?_
    refine zr_calli (zr_runS (As := [.int x2, .int (0 : Int32), .int (8 : Int32)]) hk hH hz hS hl.1 hw (va_cwS 3 hts (lw_S q2911 q2912 q162 q2913) rfl rfl rfl (by decide +kernel) (z_room (Nat.le_of_ble_eq_true rfl))) rfl rfl (Nat.le_of_ble_eq_true rfl) dX5_asks_11 ⟨Nat.le_of_ble_eq_true rfl, Nat.le_of_ble_eq_true rfl⟩) hS (fun x_8 hp_6 nx_7 hw H locs hH hz hS => ?_)
    refine lv_if_ne (tgt := 20) hx hb dX5_asks_14 (by decide) (fun hc => ?_) (fun hc => ?_)
    · have hw := hw.2 hc
      refine zr_aload_n (r := some h0) hx hb dX5_asks_20 rfl (lv_at hl 0 rfl) ?_
      obtain ⟨a_9, ci_10, fs_11, r_12, er, he, hc, hv, hw⟩ := zgR_e hw
      refine zw_get hk hH er he hv (fk_X5_34 hc) dX5_asks_21 ?_
      refine lv_iload_n hx hb dX5_asks_24 rfl (lv_at hl 1 rfl) ?_
      obtain ⟨a_13, n_14, f_15, er, he, hi, hw⟩ := zaI_e hw
      have hw := hw _ rfl
      refine zw_zald hk hH er he hi dX5_asks_25 ?_
      generalize f_15 x1.toNatClampNeg = x_16 at hw ⊢
      refine lv_if_ne (tgt := 32) hx hb dX5_asks_26 (by decide) (fun hc => ?_) (fun hc => ?_)
      · have hw := hw.2 hc
        refine lv_iload_n hx hb dX5_asks_32 rfl (lv_at hl 2 rfl) ?_
        refine lv_iconst (v := (2 : Int32)) hx hb dX5_asks_33 (by decide) ?_
        refine lv_icmp_ge (tgt := 52) hx hb dX5_asks_34 (by decide) (fun hc => ?_) (fun hc => ?_)
        · have hw := hw.1 hc
          refine lv_iload_n hx hb dX5_asks_52 rfl (lv_at hl 2 rfl) ?_
          refine lv_iconst (v := (2 : Int32)) hx hb dX5_asks_53 (by decide) ?_
          refine lv_icmp_ne (tgt := 63) hx hb dX5_asks_54 (by decide) (fun hc => ?_) (fun hc => ?_)
          · have hw := hw.2 hc
            refine lv_iload_n hx hb dX5_asks_63 rfl (lv_at hl 2 rfl) ?_
            refine lv_iconst (v := (4 : Int32)) hx hb dX5_asks_64 (by decide) ?_
            refine lv_icmp_ne (tgt := 85) hx hb dX5_asks_65 (by decide) (fun hc => ?_) (fun hc => ?_)
            · have hw := hw.2 hc
              refine lv_iload_n hx hb dX5_asks_85 rfl (lv_at hl 2 rfl) ?_
              refine lv_iconst (v := (5 : Int32)) hx hb dX5_asks_86 (by decide) ?_
              refine lv_icmp_ne (tgt := 99) hx hb dX5_asks_87 (by decide) (fun hc => ?_) (fun hc => ?_)
              · have hw := hw.2 hc
                refine lv_iload_n hx hb dX5_asks_99 rfl (lv_at hl 2 rfl) ?_
                refine lv_bipush (v := (6 : Int32)) hx hb dX5_asks_100 (by decide) ?_
                refine lv_icmp_ne (tgt := 130) hx hb dX5_asks_102 (by decide) (fun hc => ?_) (fun hc => ?_)
                · have hw := hw.2 hc
                  refine lv_iload_n hx hb dX5_asks_130 rfl (lv_at hl 2 rfl) ?_
                  refine lv_bipush (v := (6 : Int32)) hx hb dX5_asks_131 (by decide) ?_
                  refine lv_icmp_le (tgt := 146) hx hb dX5_asks_133 (by decide) (fun hc => ?_) (fun hc => ?_)
                  · have hw := hw.1 hc
                    refine lv_iconst (v := (0 : Int32)) hx hb dX5_asks_146 (by decide) ?_
                    refine lv_istore_n (i := 3) (lv' := [(3, .int (0 : Int32)), (0, va_rf (some h0)), (1, .int x1), (2, .int x2)]) hx hb dX5_asks_147 rfl hl (by decide) (by first | rfl | simp [List.filter_cons, z_cat, z_catI, z_catJ, z_catF, z_catD]) (fun ls hl => ?_)
                    obtain ⟨I_148, ⟨n_37, hI⟩, hB_148⟩ := hw
                    have hL_148 : ∀ (n_20 : Nat) (x_17 : Int32) (hp_18 : zHp) (nx_19 : Nat) (H : Heap) (locs : List Loc) (ls : Array Slot), I_148 n_20 x_17 hp_18 nx_19 → lv_has ls 4 [(0, va_rf (some h0)), (1, .int x1), (2, .int x2), (3, .int x_17)] → zHd g hp_18 H → H.size = nx_19 → va_S (zAd g) s.heap H locs → W p l e (zrm (d + 1) 0 0) s m ([.ref h0, .int x1, .int x2] : List Value).toArray below meth c H locs 0 0 (MQ below (zQi g Post) ([.ref h0, .int x1, .int x2] : List Value).toArray s 0 0 (zAd g)) (F0 m 148 ls []) := by
                      intro n_20
                      induction n_20 using Nat.strongRecOn with
                      | _ n_20 ih_148 =>
                        intro x_17 hp_18 nx_19 H locs ls hw hl hH hz hS
                        have hw := hB_148 n_20 x_17 hp_18 nx_19 hw
                        refine lv_iload_n hx hb dX5_asks_148 rfl (lv_at hl 3 rfl) ?_
                        refine lv_bipush (v := (6 : Int32)) hx hb dX5_asks_149 (by decide) ?_
                        refine lv_icmp_ge (tgt := 167) hx hb dX5_asks_151 (by decide) (fun hc => ?_) (fun hc => ?_)
                        · have hw := hw.1 hc
                          refine zr_aload_n (r := some h0) hx hb dX5_asks_167 rfl (lv_at hl 0 rfl) ?_
                          refine lv_iload_n hx hb dX5_asks_168 rfl (lv_at hl 1 rfl) ?_
                          obtain ⟨a_24, ci_25, fs_26, er, he, hc, hw⟩ := zo_e hw
                          obtain rfl := List.mem_singleton.mp hc
                          refine zr_calli (zw_runV (As := [.int x1]) hk hH hz hS hl.1 er hw (cwV 1 hts (lw_V q3241 q3243 qs120 q162 q3244) rfl rfl rfl (by decide +kernel) (z_room (Nat.le_of_ble_eq_true rfl))) he rfl rfl rfl (Nat.le_of_ble_eq_true rfl) dX5_asks_169 ⟨Nat.le_of_ble_eq_true rfl, Nat.le_of_ble_eq_true rfl⟩) hS (fun x_23 hp_21 nx_22 hw H locs hH hz hS => ?_)
                          exact zr_iret hk hr hH hz hS hw (Nat.le_of_ble_eq_true rfl) (Nat.le_of_ble_eq_true rfl) dX5_asks_172
                        · have hw := hw.2 hc
                          refine zr_aload_n (r := some h0) hx hb dX5_asks_154 rfl (lv_at hl 0 rfl) ?_
                          obtain ⟨a_27, ci_28, fs_29, r_30, er, he, hc, hv, hw⟩ := zgR_e hw
                          refine zw_get hk hH er he hv (fk_X5_117 hc) dX5_asks_155 ?_
                          refine lv_iload_n hx hb dX5_asks_158 rfl (lv_at hl 3 rfl) ?_
                          refine lv_iconst (v := (0 : Int32)) hx hb dX5_asks_159 (by decide) ?_
                          obtain ⟨a_31, n_32, f_33, er, he, hi, hA, hw⟩ := zaI_e hw
                          obtain ⟨hp_34, eh⟩ : ∃ y : zHp, y = va_up hp_18 a_31 (some (.inl (g.2.1 3, n_32, .inl (va_up f_33 x_17.toNatClampNeg (vp_nar .boolean (0 : Int32)))))) := ⟨_, rfl⟩
                          have hw := hw hp_34 eh
                          refine zw_zast hk hH hz hS er he hi hA eh dX5_asks_160 (fun H locs hH hz hS => ?_)
                          obtain ⟨x_35, ex_35⟩ : ∃ y : Int32, y = x_17 + (1 : Int32) := ⟨_, rfl⟩
                          have hw := hw x_35 ex_35
                          refine lv_iinc (v := x_35) (lv' := [(3, .int x_35), (0, va_rf (some h0)), (1, .int x1), (2, .int x2)]) hx hb dX5_asks_161 hl (k := 3) rfl (by rw [ex_35]; rfl) (by decide) (by first | rfl | simp [List.filter_cons, z_cat, z_catI, z_catJ, z_catF, z_catD]) (fun ls hl => ?_)
                          refine lv_goto (tgt := 148) hx hb dX5_asks_164 (by decide) ?_
                          obtain ⟨k_36, hlt, hw⟩ := hw
                          exact ih_148 k_36 hlt x_35 hp_34 nx_19 _ _ _ hw (lv_sub hl [1, 2, 3, 0] rfl) hH hz hS
                    exact hL_148 n_37 (0 : Int32) hp_6 nx_7 _ _ _ hI (lv_sub hl [1, 2, 3, 0] rfl) hH hz hS
                  · have hw := hw.2 hc
                    refine zr_aload_n (r := some h0) hx hb dX5_asks_136 rfl (lv_at hl 0 rfl) ?_
                    refine lv_iload_n hx hb dX5_asks_137 rfl (lv_at hl 1 rfl) ?_
                    refine lv_iload_n hx hb dX5_asks_138 rfl (lv_at hl 2 rfl) ?_
                    refine lv_bipush (v := (7 : Int32)) hx hb dX5_asks_139 (by decide) ?_
                    refine lv_isub hx hb dX5_asks_141 ?_
                    obtain ⟨a_41, ci_42, fs_43, er, he, hc, hw⟩ := zo_e hw
                    obtain rfl := List.mem_singleton.mp hc
                    refine zr_calli (zw_runV (As := [.int x1, .int (x2 - (7 : Int32))]) hk hH hz hS hl.1 er hw (cwV 2 hts (lw_V q3237 q3239 qs119 q162 q3240) rfl rfl rfl (by decide +kernel) (z_room (Nat.le_of_ble_eq_true rfl))) he rfl rfl rfl (Nat.le_of_ble_eq_true rfl) dX5_asks_142 ⟨Nat.le_of_ble_eq_true rfl, Nat.le_of_ble_eq_true rfl⟩) hS (fun x_40 hp_38 nx_39 hw H locs hH hz hS => ?_)
                    exact zr_iret hk hr hH hz hS hw (Nat.le_of_ble_eq_true rfl) (Nat.le_of_ble_eq_true rfl) dX5_asks_145
                · have hw := hw.1 hc
                  refine zr_aload_n (r := some h0) hx hb dX5_asks_105 rfl (lv_at hl 0 rfl) ?_
                  obtain ⟨a_44, ci_45, fs_46, r_47, er, he, hc, hv, hw⟩ := zgR_e hw
                  refine zw_get hk hH er he hv (fk_X5_43 hc) dX5_asks_106 ?_
                  refine lv_iload_n hx hb dX5_asks_109 rfl (lv_at hl 1 rfl) ?_
                  obtain ⟨a_48, n_49, f_50, er, he, hi, hw⟩ := zaI_e hw
                  have hw := hw _ rfl
                  refine zw_iald hk hH er he hi dX5_asks_110 ?_
                  generalize f_50 x1.toNatClampNeg = x_51 at hw ⊢
                  refine lv_iconst (v := (-1 : Int32)) hx hb dX5_asks_111 (by decide) ?_
                  obtain ⟨P_129, hP_129, hw⟩ := hw
                  have hJ_129 : ∀ (x_52 : Int32) (hp_53 : zHp) (nx_54 : Nat) (H : Heap) (locs : List Loc) (ls : Array Slot), P_129 x_52 hp_53 nx_54 → lv_has ls 4 [(0, va_rf (some h0)), (1, .int x1), (2, .int x2)] → zHd g hp_53 H → H.size = nx_54 → va_S (zAd g) s.heap H locs → W p l e (zrm (d + 1) 0 0) s m ([.ref h0, .int x1, .int x2] : List Value).toArray below meth c H locs 0 0 (MQ below (zQi g Post) ([.ref h0, .int x1, .int x2] : List Value).toArray s 0 0 (zAd g)) (F0 m 129 ls [.int x_52]) := by
                    intro x_52 hp_53 nx_54 H locs ls hw hl hH hz hS
                    have hw := hP_129 x_52 hp_53 nx_54 hw
                    exact zr_iret hk hr hH hz hS hw (Nat.le_of_ble_eq_true rfl) (Nat.le_of_ble_eq_true rfl) dX5_asks_129
                  refine lv_icmp_ne (tgt := 119) hx hb dX5_asks_112 (by decide) (fun hc => ?_) (fun hc => ?_)
                  · have hw := hw.2 hc
                    refine zr_aload_n (r := some h0) hx hb dX5_asks_119 rfl (lv_at hl 0 rfl) ?_
                    obtain ⟨a_55, ci_56, fs_57, r_58, er, he, hc, hv, hw⟩ := zgR_e hw
                    refine zw_get hk hH er he hv (fk_X5_46 hc) dX5_asks_120 ?_
                    refine lv_iconst (v := (2 : Int32)) hx hb dX5_asks_123 (by decide) ?_
                    refine lv_iload_n hx hb dX5_asks_124 rfl (lv_at hl 1 rfl) ?_
                    refine lv_imul hx hb dX5_asks_125 ?_
                    refine lv_iconst (v := (1 : Int32)) hx hb dX5_asks_126 (by decide) ?_
                    refine lv_iadd hx hb dX5_asks_127 ?_
                    obtain ⟨a_59, n_60, f_61, er, he, hi, hw⟩ := zaI_e hw
                    have hw := hw _ rfl
                    refine zw_iald hk hH er he hi dX5_asks_128 ?_
                    generalize f_61 (((2 : Int32) * x1) + (1 : Int32)).toNatClampNeg = x_62 at hw ⊢
                    exact hJ_129 x_62 hp_6 nx_7 _ _ _ hw hl hH hz hS
                  · have hw := hw.1 hc
                    refine lv_iconst (v := (0 : Int32)) hx hb dX5_asks_115 (by decide) ?_
                    refine lv_goto (tgt := 129) hx hb dX5_asks_116 (by decide) ?_
                    exact hJ_129 (0 : Int32) hp_6 nx_7 _ _ _ hw hl hH hz hS
              · have hw := hw.1 hc
                refine zr_aload_n (r := some h0) hx hb dX5_asks_90 rfl (lv_at hl 0 rfl) ?_
                obtain ⟨a_63, ci_64, fs_65, r_66, er, he, hc, hv, hw⟩ := zgR_e hw
                refine zw_get hk hH er he hv (fk_X5_46 hc) dX5_asks_91 ?_
                refine lv_iconst (v := (2 : Int32)) hx hb dX5_asks_94 (by decide) ?_
                refine lv_iload_n hx hb dX5_asks_95 rfl (lv_at hl 1 rfl) ?_
                refine lv_imul hx hb dX5_asks_96 ?_
                obtain ⟨a_67, n_68, f_69, er, he, hi, hw⟩ := zaI_e hw
                have hw := hw _ rfl
                refine zw_iald hk hH er he hi dX5_asks_97 ?_
                generalize f_69 ((2 : Int32) * x1).toNatClampNeg = x_70 at hw ⊢
                exact zr_iret hk hr hH hz hS hw (Nat.le_of_ble_eq_true rfl) (Nat.le_of_ble_eq_true rfl) dX5_asks_98
            · have hw := hw.1 hc
              refine zr_aload_n (r := some h0) hx hb dX5_asks_68 rfl (lv_at hl 0 rfl) ?_
              refine zr_aload_n (r := some h0) hx hb dX5_asks_69 rfl (lv_at hl 0 rfl) ?_
              obtain ⟨a_71, ci_72, fs_73, r_74, er, he, hc, hv, hw⟩ := zgR_e hw
              refine zw_get hk hH er he hv (fk_X5_37 hc) dX5_asks_70 ?_
              refine lv_iload_n hx hb dX5_asks_73 rfl (lv_at hl 1 rfl) ?_
              obtain ⟨a_75, n_76, f_77, er, he, hi, hw⟩ := zaI_e hw
              have hw := hw _ rfl
              refine zw_iald hk hH er he hi dX5_asks_74 ?_
              generalize f_77 x1.toNatClampNeg = x_78 at hw ⊢
              obtain ⟨a_88, ci_89, fs_90, er, he, hc, hw⟩ := zo_e hw
              obtain rfl := List.mem_singleton.mp hc
              refine zr_calli (zw_runV (As := [.int x_78]) hk hH hz hS hl.1 er hw (cwV 1 hts (lw_V q2973 q2975 qs77 q162 q2976) rfl rfl rfl (by decide +kernel) (z_room (Nat.le_of_ble_eq_true rfl))) he rfl rfl rfl (Nat.le_of_ble_eq_true rfl) dX5_asks_75 ⟨Nat.le_of_ble_eq_true rfl, Nat.le_of_ble_eq_true rfl⟩) hS (fun x_81 hp_79 nx_80 hw H locs hH hz hS => ?_)
              refine lv_pop hx hb dX5_asks_78 rfl ?_
              refine zr_aload_n (r := some h0) hx hb dX5_asks_79 rfl (lv_at hl 0 rfl) ?_
              refine lv_iload_n hx hb dX5_asks_80 rfl (lv_at hl 1 rfl) ?_
              obtain ⟨a_85, ci_86, fs_87, er, he, hc, hw⟩ := zo_e hw
              obtain rfl := List.mem_singleton.mp hc
              refine zr_calli (zw_runV (As := [.int x1]) hk hH hz hS hl.1 er hw (cwV 1 hts (lw_V q2981 q2983 qs79 q162 q2984) rfl rfl rfl (by decide +kernel) (z_room (Nat.le_of_ble_eq_true rfl))) he rfl rfl rfl (Nat.le_of_ble_eq_true rfl) dX5_asks_81 ⟨Nat.le_of_ble_eq_true rfl, Nat.le_of_ble_eq_true rfl⟩) hS (fun x_84 hp_82 nx_83 hw H locs hH hz hS => ?_)
              exact zr_iret hk hr hH hz hS hw (Nat.le_of_ble_eq_true rfl) (Nat.le_of_ble_eq_true rfl) dX5_asks_84
          · have hw := hw.1 hc
            refine zr_aload_n (r := some h0) hx hb dX5_asks_57 rfl (lv_at hl 0 rfl) ?_
            refine lv_iload_n hx hb dX5_asks_58 rfl (lv_at hl 1 rfl) ?_
            obtain ⟨a_94, ci_95, fs_96, er, he, hc, hw⟩ := zo_e hw
            obtain rfl := List.mem_singleton.mp hc
            refine zr_calli (zw_runV (As := [.int x1]) hk hH hz hS hl.1 er hw (cwV 1 hts (lw_V q3233 q3235 qs118 q162 q3236) rfl rfl rfl (by decide +kernel) (z_room (Nat.le_of_ble_eq_true rfl))) he rfl rfl rfl (Nat.le_of_ble_eq_true rfl) dX5_asks_59 ⟨Nat.le_of_ble_eq_true rfl, Nat.le_of_ble_eq_true rfl⟩) hS (fun x_93 hp_91 nx_92 hw H locs hH hz hS => ?_)
            exact zr_iret hk hr hH hz hS hw (Nat.le_of_ble_eq_true rfl) (Nat.le_of_ble_eq_true rfl) dX5_asks_62
        · have hw := hw.2 hc
          refine zr_aload_n (r := some h0) hx hb dX5_asks_37 rfl (lv_at hl 0 rfl) ?_
          refine lv_iload_n hx hb dX5_asks_38 rfl (lv_at hl 1 rfl) ?_
          refine lv_iload_n hx hb dX5_asks_39 rfl (lv_at hl 2 rfl) ?_
          obtain ⟨P_48, hP_48, hw⟩ := hw
          have hJ_48 : ∀ (r_97 : Option Nat) (x_98 : Int32) (x_99 : Int32) (hp_100 : zHp) (nx_101 : Nat) (H : Heap) (locs : List Loc) (ls : Array Slot), P_48 r_97 x_98 x_99 hp_100 nx_101 → lv_has ls 4 [(0, va_rf (some h0)), (1, .int x1), (2, .int x2)] → zHd g hp_100 H → H.size = nx_101 → va_S (zAd g) s.heap H locs → W p l e (zrm (d + 1) 0 0) s m ([.ref h0, .int x1, .int x2] : List Value).toArray below meth c H locs 0 0 (MQ below (zQi g Post) ([.ref h0, .int x1, .int x2] : List Value).toArray s 0 0 (zAd g)) (F0 m 48 ls [.int x_99, .int x_98, va_rf r_97]) := by
            intro r_97 x_98 x_99 hp_100 nx_101 H locs ls hw hl hH hz hS
            have hw := hP_48 r_97 x_98 x_99 hp_100 nx_101 hw
            obtain ⟨a_105, ci_106, fs_107, er, he, hc, hw⟩ := zo_e hw
            obtain rfl := List.mem_singleton.mp hc
            refine zr_calli (zw_runV (As := [.int x_98, .int x_99]) hk hH hz hS hl.1 er hw (cwV 2 hts (lw_V q3229 q3231 qs117 q162 q3232) rfl rfl rfl (by decide +kernel) (z_room (Nat.le_of_ble_eq_true rfl))) he rfl rfl rfl (Nat.le_of_ble_eq_true rfl) dX5_asks_48 ⟨Nat.le_of_ble_eq_true rfl, Nat.le_of_ble_eq_true rfl⟩) hS (fun x_104 hp_102 nx_103 hw H locs hH hz hS => ?_)
            exact zr_iret hk hr hH hz hS hw (Nat.le_of_ble_eq_true rfl) (Nat.le_of_ble_eq_true rfl) dX5_asks_51
          refine lv_if_ne (tgt := 47) hx hb dX5_asks_40 (by decide) (fun hc => ?_) (fun hc => ?_)
          · have hw := hw.2 hc
            refine lv_iconst (v := (0 : Int32)) hx hb dX5_asks_47 (by decide) ?_
            exact hJ_48 (some h0) x1 (0 : Int32) hp_6 nx_7 _ _ _ hw hl hH hz hS
          · have hw := hw.1 hc
            refine lv_iconst (v := (1 : Int32)) hx hb dX5_asks_43 (by decide) ?_
            refine lv_goto (tgt := 48) hx hb dX5_asks_44 (by decide) ?_
            exact hJ_48 (some h0) x1 (1 : Int32) hp_6 nx_7 _ _ _ hw hl hH hz hS
      · have hw := hw.1 hc
        refine lv_bipush (v := (-3 : Int32)) hx hb dX5_asks_29 (by decide) ?_
        exact zr_iret hk hr hH hz hS hw (Nat.le_of_ble_eq_true rfl) (Nat.le_of_ble_eq_true rfl) dX5_asks_31
    · have hw := hw.1 hc
      exact hJ_17 hp_6 nx_7 _ _ _ hw hl hH hz hS
def wp_X5_caseOf (l : Launch) (g : zG) (d : Nat) (h0 : Nat) (x1 : Int32) (x2 : Int32) (hp : zHp) (nx : Nat) (Post : Int32 → zHp → Nat → Prop) : Prop :=
  (∀ x_1 : UInt64, x_1 = FP.dconst0 →
  (zgR hp (some h0) [5] 9 fun r_5 =>
  (zaI (g.2.1 0) hp r_5 fun a_6 n_7 f_8 => vp_in x1 n_7 ∧ ∀ x_9 : Int32, x_9 = f_8 x1.toNatClampNeg →
  (∃ P_29 : Int32 → UInt64 → Int32 → zHp → Nat → Prop, (∀ (x_10 : Int32) (x_11 : UInt64) (x_12 : Int32) (hp_13 : zHp) (nx_14 : Nat), P_29 x_10 x_11 x_12 hp_13 nx_14 →
  (∃ I_34 : Nat → Int32 → UInt64 → Int32 → Int32 → zHp → Nat → Prop, (∃ n_79, I_34 n_79 x_10 x_11 x_12 (0 : Int32) hp_13 nx_14) ∧ ∀ (n_21 : Nat) (x_15 : Int32) (x_16 : UInt64) (x_17 : Int32) (x_18 : Int32) (hp_19 : zHp) (nx_20 : Nat), I_34 n_21 x_15 x_16 x_17 x_18 hp_19 nx_20 →
  (zgR hp_19 (some h0) [5] 10 fun r_25 =>
  (zaI (g.2.1 0) hp_19 r_25 fun a_26 n_27 f_28 => vp_in ((2 : Int32) * x1) n_27 ∧ ∀ x_29 : Int32, x_29 = f_28 ((2 : Int32) * x1).toNatClampNeg →
  ((x_29 ≤ x_18 →
  (Post x_15 hp_19 nx_20)) ∧
  (¬ x_29 ≤ x_18 →
  (∃ I_50 : Nat → Int32 → UInt64 → Int32 → Int32 → Int32 → zHp → Nat → Prop, (∃ n_78, I_50 n_78 x_15 x_16 x_17 x_18 (0 : Int32) hp_19 nx_20) ∧ ∀ (n_37 : Nat) (x_30 : Int32) (x_31 : UInt64) (x_32 : Int32) (x_33 : Int32) (x_34 : Int32) (hp_35 : zHp) (nx_36 : Nat), I_50 n_37 x_30 x_31 x_32 x_33 x_34 hp_35 nx_36 →
  ((x_32 ≤ x_34 →
  (∀ x_38 : Int32, x_38 = x_33 + (1 : Int32) →
  (∃ k_39, k_39 < n_21 ∧ I_34 k_39 x_30 x_31 x_32 x_38 hp_35 nx_36))) ∧
  (¬ x_32 ≤ x_34 →
  (zo hp_35 (some h0) [5] fun a_75 ci_76 fs_77 => zMt l g yX5_tellCaseNow cX5_tellCaseNow 4 none d 0 0 (.ref a_75 :: [.int x1, .int x_33, .int x_34]) hp_35 nx_36 (zQv g fun hp_40 nx_41 =>
  (zgI hp_40 (some h0) [5] 31 fun x_45 =>
  (∃ P_123 : Int32 → UInt64 → Int32 → Int32 → Int32 → zHp → Nat → Prop, (∀ (x_46 : Int32) (x_47 : UInt64) (x_48 : Int32) (x_49 : Int32) (x_50 : Int32) (hp_51 : zHp) (nx_52 : Nat), P_123 x_46 x_47 x_48 x_49 x_50 hp_51 nx_52 →
  (∀ x_53 : Int32, x_53 = x_50 + (1 : Int32) →
  (∃ k_54, k_54 < n_37 ∧ I_50 k_54 x_46 x_47 x_48 x_49 x_53 hp_51 nx_52))) ∧
  ((x_45 = 0 →
  (∃ P_108 : Int32 → UInt64 → Int32 → Int32 → Int32 → zHp → Nat → Prop, (∀ (x_55 : Int32) (x_56 : UInt64) (x_57 : Int32) (x_58 : Int32) (x_59 : Int32) (hp_60 : zHp) (nx_61 : Nat), P_108 x_55 x_56 x_57 x_58 x_59 hp_60 nx_61 →
  (∀ x_62 : Int32, x_62 = ((10 : Int32) * x_58) + x_59 →
  (zgD hp_60 (some h0) [5] 30 fun x_66 =>
  P_123 x_62 x_66 x_57 x_58 x_59 hp_60 nx_61))) ∧
  ((x_30 = (-1 : Int32) →
  P_108 x_30 x_31 x_32 x_33 x_34 hp_40 nx_41) ∧
  (¬ x_30 = (-1 : Int32) →
  ((x2 = 0 →
  (zgD hp_40 (some h0) [5] 30 fun x_70 =>
  ((0 < (Op.cmpValue (FP.dcmp x_70 x_31) .g) →
  P_108 x_30 x_31 x_32 x_33 x_34 hp_40 nx_41) ∧
  (¬ 0 < (Op.cmpValue (FP.dcmp x_70 x_31) .g) →
  P_123 x_30 x_31 x_32 x_33 x_34 hp_40 nx_41)))) ∧
  (¬ x2 = 0 →
  (zgD hp_40 (some h0) [5] 30 fun x_74 =>
  (((Op.cmpValue (FP.dcmp x_74 x_31) .l) < 0 →
  P_108 x_30 x_31 x_32 x_33 x_34 hp_40 nx_41) ∧
  (¬ (Op.cmpValue (FP.dcmp x_74 x_31) .l) < 0 →
  P_123 x_30 x_31 x_32 x_33 x_34 hp_40 nx_41))))))))) ∧
  (¬ x_45 = 0 →
  P_123 x_30 x_31 x_32 x_33 x_34 hp_40 nx_41))))))))))))))) ∧
  ((x_9 = (-1 : Int32) →
  P_29 (-1 : Int32) x_1 (1 : Int32) hp nx) ∧
  (¬ x_9 = (-1 : Int32) →
  (zgR hp (some h0) [5] 10 fun r_83 =>
  (zaI (g.2.1 0) hp r_83 fun a_84 n_85 f_86 => vp_in (((2 : Int32) * x1) + (1 : Int32)) n_85 ∧ ∀ x_87 : Int32, x_87 = f_86 (((2 : Int32) * x1) + (1 : Int32)).toNatClampNeg →
  P_29 (-1 : Int32) x_1 x_87 hp nx))))))))
set_option maxHeartbeats 40000000 in
theorem met_X5_caseOf {l : Launch} {g : zG} {d : Nat} {h0 : Nat} {x1 : Int32} {x2 : Int32} {hp : zHp} {nx : Nat} {Post : Int32 → zHp → Nat → Prop} (hw : wp_X5_caseOf l g d h0 x1 x2 hp nx Post) : zMt l g yX5_caseOf cX5_caseOf 9 (some .int) (d + 1) 0 0 [.ref h0, .int x1, .int x2] hp nx (zQi g Post) := by
  refine z_start (by decide) (Nat.le_of_ble_eq_true rfl) ?_
  intro p e s m below meth c hk hr hin hH hz ls hl
  have hx := hk.1.1
  have hb := hk.1.2.1
  have hown := hk.1.2.2.2.1
  have hts := hk.1.2.2.2.2
  have hS : va_S (zAd g) s.heap s.heap [] := va_S.rf
  have hl : lv_has ls 9 [(0, va_rf (some h0)), (1, .int x1), (2, .int x2)] := hl
  unfold wp_X5_caseOf at hw
  refine lv_iconst (v := (-1 : Int32)) hx hb dX5_caseOf_0 (by decide) ?_
  refine lv_istore_n (i := 3) (lv' := [(3, .int (-1 : Int32)), (0, va_rf (some h0)), (1, .int x1), (2, .int x2)]) hx hb dX5_caseOf_1 rfl hl (by decide) (by first | rfl | simp [List.filter_cons, z_cat, z_catI, z_catJ, z_catF, z_catD]) (fun ls hl => ?_)
  refine lv_dconst0 hx hb dX5_caseOf_2 ?_
  refine lv_topd (fun x_1 ex_1 => ?_)
  have hw := hw x_1 ex_1
  refine lv_dstore (lv' := [(4, .double x_1), (3, .int (-1 : Int32)), (0, va_rf (some h0)), (1, .int x1), (2, .int x2)]) hx hb dX5_caseOf_3 hl (by decide) (by first | rfl | simp [List.filter_cons, z_cat, z_catI, z_catJ, z_catF, z_catD]) (fun ls hl => ?_)
  refine zr_aload_n (r := some h0) hx hb dX5_caseOf_5 rfl (lv_at hl 2 rfl) ?_
  obtain ⟨a_2, ci_3, fs_4, r_5, er, he, hc, hv, hw⟩ := zgR_e hw
  refine zw_get hk hH er he hv (fk_X5_43 hc) dX5_caseOf_6 ?_
  refine lv_iload_n hx hb dX5_caseOf_9 rfl (lv_at hl 3 rfl) ?_
  obtain ⟨a_6, n_7, f_8, er, he, hi, hw⟩ := zaI_e hw
  have hw := hw _ rfl
  refine zw_iald hk hH er he hi dX5_caseOf_10 ?_
  generalize f_8 x1.toNatClampNeg = x_9 at hw ⊢
  refine lv_iconst (v := (-1 : Int32)) hx hb dX5_caseOf_11 (by decide) ?_
  obtain ⟨P_29, hP_29, hw⟩ := hw
  have hJ_29 : ∀ (x_10 : Int32) (x_11 : UInt64) (x_12 : Int32) (hp_13 : zHp) (nx_14 : Nat) (H : Heap) (locs : List Loc) (ls : Array Slot), P_29 x_10 x_11 x_12 hp_13 nx_14 → lv_has ls 9 [(0, va_rf (some h0)), (1, .int x1), (2, .int x2), (3, .int x_10), (4, .double x_11)] → zHd g hp_13 H → H.size = nx_14 → va_S (zAd g) s.heap H locs → W p l e (zrm (d + 1) 0 0) s m ([.ref h0, .int x1, .int x2] : List Value).toArray below meth c H locs 0 0 (MQ below (zQi g Post) ([.ref h0, .int x1, .int x2] : List Value).toArray s 0 0 (zAd g)) (F0 m 29 ls [.int x_12]) := by
    intro x_10 x_11 x_12 hp_13 nx_14 H locs ls hw hl hH hz hS
    have hw := hP_29 x_10 x_11 x_12 hp_13 nx_14 hw
    refine lv_istore (lv' := [(6, .int x_12), (0, va_rf (some h0)), (1, .int x1), (2, .int x2), (3, .int x_10), (4, .double x_11)]) hx hb dX5_caseOf_29 hl (by decide) (by first | rfl | simp [List.filter_cons, z_cat, z_catI, z_catJ, z_catF, z_catD]) (fun ls hl => ?_)
    refine lv_iconst (v := (0 : Int32)) hx hb dX5_caseOf_31 (by decide) ?_
    refine lv_istore (lv' := [(7, .int (0 : Int32)), (6, .int x_12), (0, va_rf (some h0)), (1, .int x1), (2, .int x2), (3, .int x_10), (4, .double x_11)]) hx hb dX5_caseOf_32 hl (by decide) (by first | rfl | simp [List.filter_cons, z_cat, z_catI, z_catJ, z_catF, z_catD]) (fun ls hl => ?_)
    obtain ⟨I_34, ⟨n_79, hI⟩, hB_34⟩ := hw
    have hL_34 : ∀ (n_21 : Nat) (x_15 : Int32) (x_16 : UInt64) (x_17 : Int32) (x_18 : Int32) (hp_19 : zHp) (nx_20 : Nat) (H : Heap) (locs : List Loc) (ls : Array Slot), I_34 n_21 x_15 x_16 x_17 x_18 hp_19 nx_20 → lv_has ls 9 [(0, va_rf (some h0)), (1, .int x1), (2, .int x2), (3, .int x_15), (4, .double x_16), (6, .int x_17), (7, .int x_18)] → zHd g hp_19 H → H.size = nx_20 → va_S (zAd g) s.heap H locs → W p l e (zrm (d + 1) 0 0) s m ([.ref h0, .int x1, .int x2] : List Value).toArray below meth c H locs 0 0 (MQ below (zQi g Post) ([.ref h0, .int x1, .int x2] : List Value).toArray s 0 0 (zAd g)) (F0 m 34 ls []) := by
      intro n_21
      induction n_21 using Nat.strongRecOn with
      | _ n_21 ih_34 =>
        intro x_15 x_16 x_17 x_18 hp_19 nx_20 H locs ls hw hl hH hz hS
        have hw := hB_34 n_21 x_15 x_16 x_17 x_18 hp_19 nx_20 hw
        refine lv_iload hx hb dX5_caseOf_34 (lv_at hl 6 rfl) ?_
        refine zr_aload_n (r := some h0) hx hb dX5_caseOf_36 rfl (lv_at hl 0 rfl) ?_
        obtain ⟨a_22, ci_23, fs_24, r_25, er, he, hc, hv, hw⟩ := zgR_e hw
        refine zw_get hk hH er he hv (fk_X5_46 hc) dX5_caseOf_37 ?_
        refine lv_iconst (v := (2 : Int32)) hx hb dX5_caseOf_40 (by decide) ?_
        refine lv_iload_n hx hb dX5_caseOf_41 rfl (lv_at hl 1 rfl) ?_
        refine lv_imul hx hb dX5_caseOf_42 ?_
        obtain ⟨a_26, n_27, f_28, er, he, hi, hw⟩ := zaI_e hw
        have hw := hw _ rfl
        refine zw_iald hk hH er he hi dX5_caseOf_43 ?_
        generalize f_28 ((2 : Int32) * x1).toNatClampNeg = x_29 at hw ⊢
        refine lv_icmp_ge (tgt := 135) hx hb dX5_caseOf_44 (by decide) (fun hc => ?_) (fun hc => ?_)
        · have hw := hw.1 hc
          refine lv_iload_n hx hb dX5_caseOf_135 rfl (lv_at hl 3 rfl) ?_
          exact zr_iret hk hr hH hz hS hw (Nat.le_of_ble_eq_true rfl) (Nat.le_of_ble_eq_true rfl) dX5_caseOf_136
        · have hw := hw.2 hc
          refine lv_iconst (v := (0 : Int32)) hx hb dX5_caseOf_47 (by decide) ?_
          refine lv_istore (lv' := [(8, .int (0 : Int32)), (0, va_rf (some h0)), (1, .int x1), (2, .int x2), (3, .int x_15), (4, .double x_16), (6, .int x_17), (7, .int x_18)]) hx hb dX5_caseOf_48 hl (by decide) (by first | rfl | simp [List.filter_cons, z_cat, z_catI, z_catJ, z_catF, z_catD]) (fun ls hl => ?_)
          obtain ⟨I_50, ⟨n_78, hI⟩, hB_50⟩ := hw
          have hL_50 : ∀ (n_37 : Nat) (x_30 : Int32) (x_31 : UInt64) (x_32 : Int32) (x_33 : Int32) (x_34 : Int32) (hp_35 : zHp) (nx_36 : Nat) (H : Heap) (locs : List Loc) (ls : Array Slot), I_50 n_37 x_30 x_31 x_32 x_33 x_34 hp_35 nx_36 → lv_has ls 9 [(0, va_rf (some h0)), (1, .int x1), (2, .int x2), (3, .int x_30), (4, .double x_31), (6, .int x_32), (7, .int x_33), (8, .int x_34)] → zHd g hp_35 H → H.size = nx_36 → va_S (zAd g) s.heap H locs → W p l e (zrm (d + 1) 0 0) s m ([.ref h0, .int x1, .int x2] : List Value).toArray below meth c H locs 0 0 (MQ below (zQi g Post) ([.ref h0, .int x1, .int x2] : List Value).toArray s 0 0 (zAd g)) (F0 m 50 ls []) := by
            intro n_37
            induction n_37 using Nat.strongRecOn with
            | _ n_37 ih_50 =>
              intro x_30 x_31 x_32 x_33 x_34 hp_35 nx_36 H locs ls hw hl hH hz hS
              have hw := hB_50 n_37 x_30 x_31 x_32 x_33 x_34 hp_35 nx_36 hw
              refine lv_iload hx hb dX5_caseOf_50 (lv_at hl 7 rfl) ?_
              refine lv_iload hx hb dX5_caseOf_52 (lv_at hl 5 rfl) ?_
              refine lv_icmp_ge (tgt := 129) hx hb dX5_caseOf_54 (by decide) (fun hc => ?_) (fun hc => ?_)
              · have hw := hw.1 hc
                obtain ⟨x_38, ex_38⟩ : ∃ y : Int32, y = x_33 + (1 : Int32) := ⟨_, rfl⟩
                have hw := hw x_38 ex_38
                refine lv_iinc (v := x_38) (lv' := [(7, .int x_38), (0, va_rf (some h0)), (1, .int x1), (2, .int x2), (3, .int x_30), (4, .double x_31), (6, .int x_32), (8, .int x_34)]) hx hb dX5_caseOf_129 hl (k := 6) rfl (by rw [ex_38]; rfl) (by decide) (by first | rfl | simp [List.filter_cons, z_cat, z_catI, z_catJ, z_catF, z_catD]) (fun ls hl => ?_)
                refine lv_goto (tgt := 34) hx hb dX5_caseOf_132 (by decide) ?_
                obtain ⟨k_39, hlt, hw⟩ := hw
                exact ih_34 k_39 hlt x_30 x_31 x_32 x_38 hp_35 nx_36 _ _ _ hw (lv_sub hl [1, 2, 3, 4, 5, 6, 0] rfl) hH hz hS
              · have hw := hw.2 hc
                refine zr_aload_n (r := some h0) hx hb dX5_caseOf_57 rfl (lv_at hl 0 rfl) ?_
                refine lv_iload_n hx hb dX5_caseOf_58 rfl (lv_at hl 1 rfl) ?_
                refine lv_iload hx hb dX5_caseOf_59 (lv_at hl 6 rfl) ?_
                refine lv_iload hx hb dX5_caseOf_61 (lv_at hl 7 rfl) ?_
                obtain ⟨a_75, ci_76, fs_77, er, he, hc, hw⟩ := zo_e hw
                obtain rfl := List.mem_singleton.mp hc
                refine zr_callv (zw_runV (As := [.int x1, .int x_33, .int x_34]) hk hH hz hS hl.1 er hw (cwV 3 hts (lw_V q3213 q3215 qs116 q162 q3216) rfl rfl rfl (by decide +kernel) (z_room (Nat.le_of_ble_eq_true rfl))) he rfl rfl rfl (Nat.le_of_ble_eq_true rfl) dX5_caseOf_63 ⟨Nat.le_of_ble_eq_true rfl, Nat.le_of_ble_eq_true rfl⟩) hS (fun hp_40 nx_41 hw H locs hH hz hS => ?_)
                refine zr_aload_n (r := some h0) hx hb dX5_caseOf_66 rfl (lv_at hl 0 rfl) ?_
                obtain ⟨a_42, ci_43, fs_44, x_45, er, he, hc, hv, hw⟩ := zgI_e hw
                refine zw_get hk hH er he hv (fk_X5_286 hc) dX5_caseOf_67 ?_
                obtain ⟨P_123, hP_123, hw⟩ := hw
                have hJ_123 : ∀ (x_46 : Int32) (x_47 : UInt64) (x_48 : Int32) (x_49 : Int32) (x_50 : Int32) (hp_51 : zHp) (nx_52 : Nat) (H : Heap) (locs : List Loc) (ls : Array Slot), P_123 x_46 x_47 x_48 x_49 x_50 hp_51 nx_52 → lv_has ls 9 [(0, va_rf (some h0)), (1, .int x1), (2, .int x2), (3, .int x_46), (4, .double x_47), (6, .int x_48), (7, .int x_49), (8, .int x_50)] → zHd g hp_51 H → H.size = nx_52 → va_S (zAd g) s.heap H locs → W p l e (zrm (d + 1) 0 0) s m ([.ref h0, .int x1, .int x2] : List Value).toArray below meth c H locs 0 0 (MQ below (zQi g Post) ([.ref h0, .int x1, .int x2] : List Value).toArray s 0 0 (zAd g)) (F0 m 123 ls []) := by
                  intro x_46 x_47 x_48 x_49 x_50 hp_51 nx_52 H locs ls hw hl hH hz hS
                  have hw := hP_123 x_46 x_47 x_48 x_49 x_50 hp_51 nx_52 hw
                  obtain ⟨x_53, ex_53⟩ : ∃ y : Int32, y = x_50 + (1 : Int32) := ⟨_, rfl⟩
                  have hw := hw x_53 ex_53
                  refine lv_iinc (v := x_53) (lv' := [(8, .int x_53), (0, va_rf (some h0)), (1, .int x1), (2, .int x2), (3, .int x_46), (4, .double x_47), (6, .int x_48), (7, .int x_49)]) hx hb dX5_caseOf_123 hl (k := 7) rfl (by rw [ex_53]; rfl) (by decide) (by first | rfl | simp [List.filter_cons, z_cat, z_catI, z_catJ, z_catF, z_catD]) (fun ls hl => ?_)
                  refine lv_goto (tgt := 50) hx hb dX5_caseOf_126 (by decide) ?_
                  obtain ⟨k_54, hlt, hw⟩ := hw
                  exact ih_50 k_54 hlt x_46 x_47 x_48 x_49 x_53 hp_51 nx_52 _ _ _ hw (lv_sub hl [1, 2, 3, 4, 5, 6, 7, 0] rfl) hH hz hS
                refine lv_if_ne (tgt := 123) hx hb dX5_caseOf_70 (by decide) (fun hc => ?_) (fun hc => ?_)
                · have hw := hw.2 hc
                  exact hJ_123 x_30 x_31 x_32 x_33 x_34 hp_40 nx_41 _ _ _ hw hl hH hz hS
                · have hw := hw.1 hc
                  refine lv_iload_n hx hb dX5_caseOf_73 rfl (lv_at hl 3 rfl) ?_
                  refine lv_iconst (v := (-1 : Int32)) hx hb dX5_caseOf_74 (by decide) ?_
                  obtain ⟨P_108, hP_108, hw⟩ := hw
                  have hJ_108 : ∀ (x_55 : Int32) (x_56 : UInt64) (x_57 : Int32) (x_58 : Int32) (x_59 : Int32) (hp_60 : zHp) (nx_61 : Nat) (H : Heap) (locs : List Loc) (ls : Array Slot), P_108 x_55 x_56 x_57 x_58 x_59 hp_60 nx_61 → lv_has ls 9 [(0, va_rf (some h0)), (1, .int x1), (2, .int x2), (3, .int x_55), (4, .double x_56), (6, .int x_57), (7, .int x_58), (8, .int x_59)] → zHd g hp_60 H → H.size = nx_61 → va_S (zAd g) s.heap H locs → W p l e (zrm (d + 1) 0 0) s m ([.ref h0, .int x1, .int x2] : List Value).toArray below meth c H locs 0 0 (MQ below (zQi g Post) ([.ref h0, .int x1, .int x2] : List Value).toArray s 0 0 (zAd g)) (F0 m 108 ls []) := by
                    intro x_55 x_56 x_57 x_58 x_59 hp_60 nx_61 H locs ls hw hl hH hz hS
                    have hw := hP_108 x_55 x_56 x_57 x_58 x_59 hp_60 nx_61 hw
                    refine lv_bipush (v := (10 : Int32)) hx hb dX5_caseOf_108 (by decide) ?_
                    refine lv_iload hx hb dX5_caseOf_110 (lv_at hl 6 rfl) ?_
                    refine lv_imul hx hb dX5_caseOf_112 ?_
                    refine lv_iload hx hb dX5_caseOf_113 (lv_at hl 7 rfl) ?_
                    refine lv_iadd hx hb dX5_caseOf_115 ?_
                    refine lv_topi (fun x_62 ex_62 => ?_)
                    have hw := hw x_62 ex_62
                    refine lv_istore_n (i := 3) (lv' := [(3, .int x_62), (0, va_rf (some h0)), (1, .int x1), (2, .int x2), (4, .double x_56), (6, .int x_57), (7, .int x_58), (8, .int x_59)]) hx hb dX5_caseOf_116 rfl hl (by decide) (by first | rfl | simp [List.filter_cons, z_cat, z_catI, z_catJ, z_catF, z_catD]) (fun ls hl => ?_)
                    refine zr_aload_n (r := some h0) hx hb dX5_caseOf_117 rfl (lv_at hl 1 rfl) ?_
                    obtain ⟨a_63, ci_64, fs_65, x_66, er, he, hc, hv, hw⟩ := zgD_e hw
                    refine zw_get hk hH er he hv (fk_X5_282 hc) dX5_caseOf_118 ?_
                    refine lv_dstore (lv' := [(4, .double x_66), (3, .int x_62), (0, va_rf (some h0)), (1, .int x1), (2, .int x2), (6, .int x_57), (7, .int x_58), (8, .int x_59)]) hx hb dX5_caseOf_121 hl (by decide) (by first | rfl | simp [List.filter_cons, z_cat, z_catI, z_catJ, z_catF, z_catD]) (fun ls hl => ?_)
                    exact hJ_123 x_62 x_66 x_57 x_58 x_59 hp_60 nx_61 _ _ _ hw (lv_sub hl [2, 3, 4, 1, 0, 5, 6, 7] rfl) hH hz hS
                  refine lv_icmp_eq (tgt := 108) hx hb dX5_caseOf_75 (by decide) (fun hc => ?_) (fun hc => ?_)
                  · have hw := hw.1 hc
                    exact hJ_108 x_30 x_31 x_32 x_33 x_34 hp_40 nx_41 _ _ _ hw hl hH hz hS
                  · have hw := hw.2 hc
                    refine lv_iload_n hx hb dX5_caseOf_78 rfl (lv_at hl 2 rfl) ?_
                    refine lv_if_eq (tgt := 95) hx hb dX5_caseOf_79 (by decide) (fun hc => ?_) (fun hc => ?_)
                    · have hw := hw.1 hc
                      refine zr_aload_n (r := some h0) hx hb dX5_caseOf_95 rfl (lv_at hl 0 rfl) ?_
                      obtain ⟨a_67, ci_68, fs_69, x_70, er, he, hc, hv, hw⟩ := zgD_e hw
                      refine zw_get hk hH er he hv (fk_X5_282 hc) dX5_caseOf_96 ?_
                      refine lv_dload hx hb dX5_caseOf_99 (lv_at hl 4 rfl) ?_
                      refine lv_dcmp hx hb dX5_caseOf_101 ?_
                      refine lv_if_gt (tgt := 108) hx hb dX5_caseOf_102 (by decide) (fun hc => ?_) (fun hc => ?_)
                      · have hw := hw.1 hc
                        exact hJ_108 x_30 x_31 x_32 x_33 x_34 hp_40 nx_41 _ _ _ hw hl hH hz hS
                      · have hw := hw.2 hc
                        refine lv_goto (tgt := 123) hx hb dX5_caseOf_105 (by decide) ?_
                        exact hJ_123 x_30 x_31 x_32 x_33 x_34 hp_40 nx_41 _ _ _ hw hl hH hz hS
                    · have hw := hw.2 hc
                      refine zr_aload_n (r := some h0) hx hb dX5_caseOf_82 rfl (lv_at hl 0 rfl) ?_
                      obtain ⟨a_71, ci_72, fs_73, x_74, er, he, hc, hv, hw⟩ := zgD_e hw
                      refine zw_get hk hH er he hv (fk_X5_282 hc) dX5_caseOf_83 ?_
                      refine lv_dload hx hb dX5_caseOf_86 (lv_at hl 4 rfl) ?_
                      refine lv_dcmp hx hb dX5_caseOf_88 ?_
                      refine lv_if_lt (tgt := 108) hx hb dX5_caseOf_89 (by decide) (fun hc => ?_) (fun hc => ?_)
                      · have hw := hw.1 hc
                        exact hJ_108 x_30 x_31 x_32 x_33 x_34 hp_40 nx_41 _ _ _ hw hl hH hz hS
                      · have hw := hw.2 hc
                        refine lv_goto (tgt := 123) hx hb dX5_caseOf_92 (by decide) ?_
                        exact hJ_123 x_30 x_31 x_32 x_33 x_34 hp_40 nx_41 _ _ _ hw hl hH hz hS
          exact hL_50 n_78 x_15 x_16 x_17 x_18 (0 : Int32) hp_19 nx_20 _ _ _ hI (lv_sub hl [1, 2, 3, 4, 5, 6, 7, 0] rfl) hH hz hS
    exact hL_34 n_79 x_10 x_11 x_12 (0 : Int32) hp_13 nx_14 _ _ _ hI (lv_sub hl [2, 3, 4, 5, 6, 1, 0] rfl) hH hz hS
  refine lv_icmp_ne (tgt := 19) hx hb dX5_caseOf_12 (by decide) (fun hc => ?_) (fun hc => ?_)
  · have hw := hw.2 hc
    refine zr_aload_n (r := some h0) hx hb dX5_caseOf_19 rfl (lv_at hl 2 rfl) ?_
    obtain ⟨a_80, ci_81, fs_82, r_83, er, he, hc, hv, hw⟩ := zgR_e hw
    refine zw_get hk hH er he hv (fk_X5_46 hc) dX5_caseOf_20 ?_
    refine lv_iconst (v := (2 : Int32)) hx hb dX5_caseOf_23 (by decide) ?_
    refine lv_iload_n hx hb dX5_caseOf_24 rfl (lv_at hl 3 rfl) ?_
    refine lv_imul hx hb dX5_caseOf_25 ?_
    refine lv_iconst (v := (1 : Int32)) hx hb dX5_caseOf_26 (by decide) ?_
    refine lv_iadd hx hb dX5_caseOf_27 ?_
    obtain ⟨a_84, n_85, f_86, er, he, hi, hw⟩ := zaI_e hw
    have hw := hw _ rfl
    refine zw_iald hk hH er he hi dX5_caseOf_28 ?_
    generalize f_86 (((2 : Int32) * x1) + (1 : Int32)).toNatClampNeg = x_87 at hw ⊢
    exact hJ_29 (-1 : Int32) x_1 x_87 hp nx _ _ _ hw (lv_sub hl [2, 3, 4, 1, 0] rfl) hH hz hS
  · have hw := hw.1 hc
    refine lv_iconst (v := (1 : Int32)) hx hb dX5_caseOf_15 (by decide) ?_
    refine lv_goto (tgt := 29) hx hb dX5_caseOf_16 (by decide) ?_
    exact hJ_29 (-1 : Int32) x_1 (1 : Int32) hp nx _ _ _ hw (lv_sub hl [2, 3, 4, 1, 0] rfl) hH hz hS
def wp_X5_slice (l : Launch) (g : zG) (d : Nat) (h0 : Nat) (x1 : Int32) (hp : zHp) (nx : Nat) (Post : Int32 → zHp → Nat → Prop) : Prop :=
  (zgR hp (some h0) [5] 7 fun r_4 =>
  (zaI (g.2.1 0) hp r_4 fun a_5 n_6 f_7 => vp_in x1 n_6 ∧ ∀ x_8 : Int32, x_8 = f_7 x1.toNatClampNeg →
  (zo hp (some h0) [5] fun a_45 ci_46 fs_47 => zMt l g yX5_reached cX5_reached 5 (some .int) d 0 0 (.ref a_45 :: [.int x_8]) hp nx (zQi g fun x_11 hp_9 nx_10 =>
  (∃ I_16 : Nat → Int32 → Int32 → Int32 → zHp → Nat → Prop, (∃ n_44, I_16 n_44 (0 : Int32) x_11 (0 : Int32) hp_9 nx_10) ∧ ∀ (n_17 : Nat) (x_12 : Int32) (x_13 : Int32) (x_14 : Int32) (hp_15 : zHp) (nx_16 : Nat), I_16 n_17 x_12 x_13 x_14 hp_15 nx_16 →
  (((24 : Int32) ≤ x_14 →
  (Post x_12 hp_15 nx_16)) ∧
  (¬ (24 : Int32) ≤ x_14 →
  (∃ P_64 : Int32 → Int32 → Int32 → zHp → Nat → Prop, (∀ (x_18 : Int32) (x_19 : Int32) (x_20 : Int32) (hp_21 : zHp) (nx_22 : Nat), P_64 x_18 x_19 x_20 hp_21 nx_22 →
  (∀ x_23 : Int32, x_23 = x_20 + (1 : Int32) →
  (∃ k_24, k_24 < n_17 ∧ I_16 k_24 x_18 x_19 x_23 hp_21 nx_22))) ∧
  ((((x_13 >>> (x_14 &&& 31)) &&& (1 : Int32)) = (1 : Int32) →
  (zo hp_15 (some h0) [5] fun a_41 ci_42 fs_43 => zMt l g yX5_isInput cX5_isInput 2 (some .boolean) d 0 0 (.ref a_41 :: [.int x_14]) hp_15 nx_16 (zQi g fun x_27 hp_25 nx_26 =>
  ((x_27 = 0 →
  (zo hp_25 (some h0) [5] fun a_38 ci_39 fs_40 => zMt l g yX5_reads cX5_reads 3 (some .int) d 0 0 (.ref a_38 :: [.int x_14]) hp_25 nx_26 (zQi g fun x_30 hp_28 nx_29 =>
  (zo hp_28 (some h0) [5] fun a_35 ci_36 fs_37 => zMt l g yX5_varied cX5_varied 2 (some .int) d 0 0 (.ref a_35 :: [.int x1]) hp_28 nx_29 (zQi g fun x_33 hp_31 nx_32 =>
  (((x_30 &&& x_33) = 0 →
  P_64 x_12 x_13 x_14 hp_31 nx_32) ∧
  (¬ (x_30 &&& x_33) = 0 →
  (∀ x_34 : Int32, x_34 = x_12 ||| ((1 : Int32) <<< (x_14 &&& 31)) →
  P_64 x_34 x_13 x_14 hp_31 nx_32)))))))) ∧
  (¬ x_27 = 0 →
  P_64 x_12 x_13 x_14 hp_25 nx_26))))) ∧
  (¬ ((x_13 >>> (x_14 &&& 31)) &&& (1 : Int32)) = (1 : Int32) →
  P_64 x_12 x_13 x_14 hp_15 nx_16))))))))))
set_option maxHeartbeats 40000000 in
theorem met_X5_slice {l : Launch} {g : zG} {d : Nat} {h0 : Nat} {x1 : Int32} {hp : zHp} {nx : Nat} {Post : Int32 → zHp → Nat → Prop} (hw : wp_X5_slice l g d h0 x1 hp nx Post) : zMt l g yX5_slice cX5_slice 5 (some .int) (d + 1) 0 0 [.ref h0, .int x1] hp nx (zQi g Post) := by
  refine z_start (by decide) (Nat.le_of_ble_eq_true rfl) ?_
  intro p e s m below meth c hk hr hin hH hz ls hl
  have hx := hk.1.1
  have hb := hk.1.2.1
  have hown := hk.1.2.2.2.1
  have hts := hk.1.2.2.2.2
  have hS : va_S (zAd g) s.heap s.heap [] := va_S.rf
  have hl : lv_has ls 5 [(0, va_rf (some h0)), (1, .int x1)] := hl
  unfold wp_X5_slice at hw
  refine lv_iconst (v := (0 : Int32)) hx hb dX5_slice_0 (by decide) ?_
  refine lv_istore_n (i := 2) (lv' := [(2, .int (0 : Int32)), (0, va_rf (some h0)), (1, .int x1)]) hx hb dX5_slice_1 rfl hl (by decide) (by first | rfl | simp [List.filter_cons, z_cat, z_catI, z_catJ, z_catF, z_catD]) (fun ls hl => ?_)
  refine zr_aload_n (r := some h0) hx hb dX5_slice_2 rfl (lv_at hl 1 rfl) ?_
  refine zr_aload_n (r := some h0) hx hb dX5_slice_3 rfl (lv_at hl 1 rfl) ?_
  obtain ⟨a_1, ci_2, fs_3, r_4, er, he, hc, hv, hw⟩ := zgR_e hw
  refine zw_get hk hH er he hv (fk_X5_37 hc) dX5_slice_4 ?_
  refine lv_iload_n hx hb dX5_slice_7 rfl (lv_at hl 2 rfl) ?_
  obtain ⟨a_5, n_6, f_7, er, he, hi, hw⟩ := zaI_e hw
  have hw := hw _ rfl
  refine zw_iald hk hH er he hi dX5_slice_8 ?_
  generalize f_7 x1.toNatClampNeg = x_8 at hw ⊢
  obtain ⟨a_45, ci_46, fs_47, er, he, hc, hw⟩ := zo_e hw
  obtain rfl := List.mem_singleton.mp hc
  refine zr_calli (zw_runV (As := [.int x_8]) hk hH hz hS hl.1 er hw (cwV 1 hts (lw_V q2969 q2971 qs76 q162 q2972) rfl rfl rfl (by decide +kernel) (z_room (Nat.le_of_ble_eq_true rfl))) he rfl rfl rfl (Nat.le_of_ble_eq_true rfl) dX5_slice_9 ⟨Nat.le_of_ble_eq_true rfl, Nat.le_of_ble_eq_true rfl⟩) hS (fun x_11 hp_9 nx_10 hw H locs hH hz hS => ?_)
  refine lv_istore_n (i := 3) (lv' := [(3, .int x_11), (2, .int (0 : Int32)), (0, va_rf (some h0)), (1, .int x1)]) hx hb dX5_slice_12 rfl hl (by decide) (by first | rfl | simp [List.filter_cons, z_cat, z_catI, z_catJ, z_catF, z_catD]) (fun ls hl => ?_)
  refine lv_iconst (v := (0 : Int32)) hx hb dX5_slice_13 (by decide) ?_
  refine lv_istore (lv' := [(4, .int (0 : Int32)), (3, .int x_11), (2, .int (0 : Int32)), (0, va_rf (some h0)), (1, .int x1)]) hx hb dX5_slice_14 hl (by decide) (by first | rfl | simp [List.filter_cons, z_cat, z_catI, z_catJ, z_catF, z_catD]) (fun ls hl => ?_)
  obtain ⟨I_16, ⟨n_44, hI⟩, hB_16⟩ := hw
  have hL_16 : ∀ (n_17 : Nat) (x_12 : Int32) (x_13 : Int32) (x_14 : Int32) (hp_15 : zHp) (nx_16 : Nat) (H : Heap) (locs : List Loc) (ls : Array Slot), I_16 n_17 x_12 x_13 x_14 hp_15 nx_16 → lv_has ls 5 [(0, va_rf (some h0)), (1, .int x1), (2, .int x_12), (3, .int x_13), (4, .int x_14)] → zHd g hp_15 H → H.size = nx_16 → va_S (zAd g) s.heap H locs → W p l e (zrm (d + 1) 0 0) s m ([.ref h0, .int x1] : List Value).toArray below meth c H locs 0 0 (MQ below (zQi g Post) ([.ref h0, .int x1] : List Value).toArray s 0 0 (zAd g)) (F0 m 16 ls []) := by
    intro n_17
    induction n_17 using Nat.strongRecOn with
    | _ n_17 ih_16 =>
      intro x_12 x_13 x_14 hp_15 nx_16 H locs ls hw hl hH hz hS
      have hw := hB_16 n_17 x_12 x_13 x_14 hp_15 nx_16 hw
      refine lv_iload hx hb dX5_slice_16 (lv_at hl 4 rfl) ?_
      refine lv_bipush (v := (24 : Int32)) hx hb dX5_slice_18 (by decide) ?_
      refine lv_icmp_ge (tgt := 70) hx hb dX5_slice_20 (by decide) (fun hc => ?_) (fun hc => ?_)
      · have hw := hw.1 hc
        refine lv_iload_n hx hb dX5_slice_70 rfl (lv_at hl 2 rfl) ?_
        exact zr_iret hk hr hH hz hS hw (Nat.le_of_ble_eq_true rfl) (Nat.le_of_ble_eq_true rfl) dX5_slice_71
      · have hw := hw.2 hc
        refine lv_iload_n hx hb dX5_slice_23 rfl (lv_at hl 3 rfl) ?_
        refine lv_iload hx hb dX5_slice_24 (lv_at hl 4 rfl) ?_
        refine lv_ishr hx hb dX5_slice_26 ?_
        refine lv_iconst (v := (1 : Int32)) hx hb dX5_slice_27 (by decide) ?_
        refine lv_iand hx hb dX5_slice_28 ?_
        refine lv_iconst (v := (1 : Int32)) hx hb dX5_slice_29 (by decide) ?_
        obtain ⟨P_64, hP_64, hw⟩ := hw
        have hJ_64 : ∀ (x_18 : Int32) (x_19 : Int32) (x_20 : Int32) (hp_21 : zHp) (nx_22 : Nat) (H : Heap) (locs : List Loc) (ls : Array Slot), P_64 x_18 x_19 x_20 hp_21 nx_22 → lv_has ls 5 [(0, va_rf (some h0)), (1, .int x1), (2, .int x_18), (3, .int x_19), (4, .int x_20)] → zHd g hp_21 H → H.size = nx_22 → va_S (zAd g) s.heap H locs → W p l e (zrm (d + 1) 0 0) s m ([.ref h0, .int x1] : List Value).toArray below meth c H locs 0 0 (MQ below (zQi g Post) ([.ref h0, .int x1] : List Value).toArray s 0 0 (zAd g)) (F0 m 64 ls []) := by
          intro x_18 x_19 x_20 hp_21 nx_22 H locs ls hw hl hH hz hS
          have hw := hP_64 x_18 x_19 x_20 hp_21 nx_22 hw
          obtain ⟨x_23, ex_23⟩ : ∃ y : Int32, y = x_20 + (1 : Int32) := ⟨_, rfl⟩
          have hw := hw x_23 ex_23
          refine lv_iinc (v := x_23) (lv' := [(4, .int x_23), (0, va_rf (some h0)), (1, .int x1), (2, .int x_18), (3, .int x_19)]) hx hb dX5_slice_64 hl (k := 4) rfl (by rw [ex_23]; rfl) (by decide) (by first | rfl | simp [List.filter_cons, z_cat, z_catI, z_catJ, z_catF, z_catD]) (fun ls hl => ?_)
          refine lv_goto (tgt := 16) hx hb dX5_slice_67 (by decide) ?_
          obtain ⟨k_24, hlt, hw⟩ := hw
          exact ih_16 k_24 hlt x_18 x_19 x_23 hp_21 nx_22 _ _ _ hw (lv_sub hl [1, 2, 3, 4, 0] rfl) hH hz hS
        refine lv_icmp_ne (tgt := 64) hx hb dX5_slice_30 (by decide) (fun hc => ?_) (fun hc => ?_)
        · have hw := hw.2 hc
          exact hJ_64 x_12 x_13 x_14 hp_15 nx_16 _ _ _ hw hl hH hz hS
        · have hw := hw.1 hc
          refine zr_aload_n (r := some h0) hx hb dX5_slice_33 rfl (lv_at hl 0 rfl) ?_
          refine lv_iload hx hb dX5_slice_34 (lv_at hl 4 rfl) ?_
          obtain ⟨a_41, ci_42, fs_43, er, he, hc, hw⟩ := zo_e hw
          obtain rfl := List.mem_singleton.mp hc
          refine zr_calli (zw_runV (As := [.int x_14]) hk hH hz hS hl.1 er hw (cwV 1 hts (lw_V q2919 q2921 qs69 q162 q2922) rfl rfl rfl (by decide +kernel) (z_room (Nat.le_of_ble_eq_true rfl))) he rfl rfl rfl (Nat.le_of_ble_eq_true rfl) dX5_slice_36 ⟨Nat.le_of_ble_eq_true rfl, Nat.le_of_ble_eq_true rfl⟩) hS (fun x_27 hp_25 nx_26 hw H locs hH hz hS => ?_)
          refine lv_if_ne (tgt := 64) hx hb dX5_slice_39 (by decide) (fun hc => ?_) (fun hc => ?_)
          · have hw := hw.2 hc
            exact hJ_64 x_12 x_13 x_14 hp_25 nx_26 _ _ _ hw hl hH hz hS
          · have hw := hw.1 hc
            refine zr_aload_n (r := some h0) hx hb dX5_slice_42 rfl (lv_at hl 0 rfl) ?_
            refine lv_iload hx hb dX5_slice_43 (lv_at hl 4 rfl) ?_
            obtain ⟨a_38, ci_39, fs_40, er, he, hc, hw⟩ := zo_e hw
            obtain rfl := List.mem_singleton.mp hc
            refine zr_calli (zw_runV (As := [.int x_14]) hk hH hz hS hl.1 er hw (cwV 1 hts (lw_V q2949 q2951 qs71 q162 q2952) rfl rfl rfl (by decide +kernel) (z_room (Nat.le_of_ble_eq_true rfl))) he rfl rfl rfl (Nat.le_of_ble_eq_true rfl) dX5_slice_45 ⟨Nat.le_of_ble_eq_true rfl, Nat.le_of_ble_eq_true rfl⟩) hS (fun x_30 hp_28 nx_29 hw H locs hH hz hS => ?_)
            refine zr_aload_n (r := some h0) hx hb dX5_slice_48 rfl (lv_at hl 0 rfl) ?_
            refine lv_iload_n hx hb dX5_slice_49 rfl (lv_at hl 1 rfl) ?_
            obtain ⟨a_35, ci_36, fs_37, er, he, hc, hw⟩ := zo_e hw
            obtain rfl := List.mem_singleton.mp hc
            refine zr_calli (zw_runV (As := [.int x1]) hk hH hz hS hl.1 er hw (cwV 1 hts (lw_V q2965 q2967 qs75 q162 q2968) rfl rfl rfl (by decide +kernel) (z_room (Nat.le_of_ble_eq_true rfl))) he rfl rfl rfl (Nat.le_of_ble_eq_true rfl) dX5_slice_50 ⟨Nat.le_of_ble_eq_true rfl, Nat.le_of_ble_eq_true rfl⟩) hS (fun x_33 hp_31 nx_32 hw H locs hH hz hS => ?_)
            refine lv_iand hx hb dX5_slice_53 ?_
            refine lv_if_eq (tgt := 64) hx hb dX5_slice_54 (by decide) (fun hc => ?_) (fun hc => ?_)
            · have hw := hw.1 hc
              exact hJ_64 x_12 x_13 x_14 hp_31 nx_32 _ _ _ hw hl hH hz hS
            · have hw := hw.2 hc
              refine lv_iload_n hx hb dX5_slice_57 rfl (lv_at hl 2 rfl) ?_
              refine lv_iconst (v := (1 : Int32)) hx hb dX5_slice_58 (by decide) ?_
              refine lv_iload hx hb dX5_slice_59 (lv_at hl 4 rfl) ?_
              refine lv_ishl hx hb dX5_slice_61 ?_
              refine lv_ior hx hb dX5_slice_62 ?_
              refine lv_topi (fun x_34 ex_34 => ?_)
              have hw := hw x_34 ex_34
              refine lv_istore_n (i := 2) (lv' := [(2, .int x_34), (0, va_rf (some h0)), (1, .int x1), (3, .int x_13), (4, .int x_14)]) hx hb dX5_slice_63 rfl hl (by decide) (by first | rfl | simp [List.filter_cons, z_cat, z_catI, z_catJ, z_catF, z_catD]) (fun ls hl => ?_)
              exact hJ_64 x_34 x_13 x_14 hp_31 nx_32 _ _ _ hw (lv_sub hl [1, 2, 0, 3, 4] rfl) hH hz hS
  exact hL_16 n_44 (0 : Int32) x_11 (0 : Int32) hp_9 nx_10 _ _ _ hI (lv_sub hl [3, 4, 2, 1, 0] rfl) hH hz hS
def wp_X5_unlikeOnes (l : Launch) (g : zG) (d : Nat) (h0 : Nat) (x1 : Int32) (x2 : Int32) (hp : zHp) (nx : Nat) (Post : Int32 → zHp → Nat → Prop) : Prop :=
  (∃ P_19 : Int32 → zHp → Nat → Prop, (∀ (x_1 : Int32) (hp_2 : zHp) (nx_3 : Nat), P_19 x_1 hp_2 nx_3 →
  ((x_1 = (-1 : Int32) →
  (Post (0 : Int32) hp_2 nx_3)) ∧
  (¬ x_1 = (-1 : Int32) →
  (∃ I_33 : Nat → Int32 → Int32 → Int32 → zHp → Nat → Prop, (∃ n_95, I_33 n_95 x_1 (0 : Int32) (0 : Int32) hp_2 nx_3) ∧ ∀ (n_9 : Nat) (x_4 : Int32) (x_5 : Int32) (x_6 : Int32) (hp_7 : zHp) (nx_8 : Nat), I_33 n_9 x_4 x_5 x_6 hp_7 nx_8 →
  (zgR hp_7 (some h0) [5] 10 fun r_13 =>
  (zaI (g.2.1 0) hp_7 r_13 fun a_14 n_15 f_16 => vp_in (((2 : Int32) * x1) + x2) n_15 ∧ ∀ x_17 : Int32, x_17 = f_16 (((2 : Int32) * x1) + x2).toNatClampNeg →
  ((x_17 ≤ x_6 →
  (Post x_5 hp_7 nx_8)) ∧
  (¬ x_17 ≤ x_6 →
  (∃ I_54 : Nat → Int32 → Int32 → Int32 → Int32 → Int32 → zHp → Nat → Prop, (∃ n_94, I_54 n_94 x_4 x_5 x_6 (1 : Int32) (0 : Int32) hp_7 nx_8) ∧ ∀ (n_25 : Nat) (x_18 : Int32) (x_19 : Int32) (x_20 : Int32) (x_21 : Int32) (x_22 : Int32) (hp_23 : zHp) (nx_24 : Nat), I_54 n_25 x_18 x_19 x_20 x_21 x_22 hp_23 nx_24 →
  ((x_20 ≤ x_22 →
  (∃ P_133 : Int32 → Int32 → Int32 → Int32 → Int32 → zHp → Nat → Prop, (∀ (x_26 : Int32) (x_27 : Int32) (x_28 : Int32) (x_29 : Int32) (x_30 : Int32) (hp_31 : zHp) (nx_32 : Nat), P_133 x_26 x_27 x_28 x_29 x_30 hp_31 nx_32 →
  (∀ x_33 : Int32, x_33 = x_28 + (1 : Int32) →
  (∃ k_34, k_34 < n_9 ∧ I_33 k_34 x_26 x_27 x_33 hp_31 nx_32))) ∧
  ((x_21 = 0 →
  P_133 x_18 x_19 x_20 x_21 x_22 hp_23 nx_24) ∧
  (¬ x_21 = 0 →
  (∀ x_35 : Int32, x_35 = x_19 + (1 : Int32) →
  P_133 x_18 x_35 x_20 x_21 x_22 hp_23 nx_24))))) ∧
  (¬ x_20 ≤ x_22 →
  (zgR hp_23 (some h0) [5] 0 fun r_39 =>
  (zaI (g.2.1 0) hp_23 r_39 fun a_40 n_41 f_42 => vp_in x_18 n_41 ∧ ∀ x_43 : Int32, x_43 = f_42 x_18.toNatClampNeg →
  (zgR hp_23 (some h0) [5] 11 fun r_47 =>
  (zaR (g.2.1 15) hp_23 r_47 fun a_48 n_49 f_50 => vp_in (((2 : Int32) * x1) + x2) n_49 ∧ ∀ r_51 : Option Nat, r_51 = f_50 (((2 : Int32) * x1) + x2).toNatClampNeg →
  (zaD (g.2.1 1) hp_23 r_51 fun a_52 n_53 f_54 => vp_in x_22 n_53 ∧ ∀ x_55 : UInt64, x_55 = f_54 x_22.toNatClampNeg →
  (zMt l g yX5_kept cX5_kept 3 (some .double) d 0 0 [.int x_43, .double x_55] hp_23 nx_24 (zQd g fun x_58 hp_56 nx_57 =>
  (zgR hp_56 (some h0) [5] 0 fun r_62 =>
  (zaI (g.2.1 0) hp_56 r_62 fun a_63 n_64 f_65 => vp_in x_18 n_64 ∧ ∀ x_66 : Int32, x_66 = f_65 x_18.toNatClampNeg →
  (zgR hp_56 (some h0) [5] 11 fun r_70 =>
  (zaR (g.2.1 15) hp_56 r_70 fun a_71 n_72 f_73 => vp_in (((2 : Int32) * x1) + x2) n_72 ∧ ∀ r_74 : Option Nat, r_74 = f_73 (((2 : Int32) * x1) + x2).toNatClampNeg →
  (zaD (g.2.1 1) hp_56 r_74 fun a_75 n_76 f_77 => vp_in x_20 n_76 ∧ ∀ x_78 : UInt64, x_78 = f_77 x_20.toNatClampNeg →
  (zMt l g yX5_kept cX5_kept 3 (some .double) d 0 0 [.int x_66, .double x_78] hp_56 nx_57 (zQd g fun x_81 hp_79 nx_80 =>
  (∃ P_116 : Int32 → Int32 → Int32 → Int32 → Int32 → Int32 → Int32 → zHp → Nat → Prop, (∀ (x_82 : Int32) (x_83 : Int32) (x_84 : Int32) (x_85 : Int32) (x_86 : Int32) (x_87 : Int32) (x_88 : Int32) (hp_89 : zHp) (nx_90 : Nat), P_116 x_82 x_83 x_84 x_85 x_86 x_87 x_88 hp_89 nx_90 →
  (∀ x_91 : Int32, x_91 = x_87 &&& x_88 →
  (∀ x_92 : Int32, x_92 = x_86 + (1 : Int32) →
  (∃ k_93, k_93 < n_25 ∧ I_54 k_93 x_82 x_83 x_84 x_91 x_92 hp_89 nx_90)))) ∧
  (((Op.cmpValue (FP.dcmp x_58 x_81) .l) = 0 →
  P_116 x_18 x_19 x_20 x_21 x_22 x_21 (0 : Int32) hp_79 nx_80) ∧
  (¬ (Op.cmpValue (FP.dcmp x_58 x_81) .l) = 0 →
  P_116 x_18 x_19 x_20 x_21 x_22 x_21 (1 : Int32) hp_79 nx_80)))))))))))))))))))))))))))) ∧
  ((x2 = 0 →
  (zgR hp (some h0) [5] 8 fun r_107 =>
  (zaI (g.2.1 0) hp r_107 fun a_108 n_109 f_110 => vp_in x1 n_109 ∧ ∀ x_111 : Int32, x_111 = f_110 x1.toNatClampNeg →
  P_19 x_111 hp nx))) ∧
  (¬ x2 = 0 →
  (zgR hp (some h0) [5] 9 fun r_99 =>
  (zaI (g.2.1 0) hp r_99 fun a_100 n_101 f_102 => vp_in x1 n_101 ∧ ∀ x_103 : Int32, x_103 = f_102 x1.toNatClampNeg →
  P_19 x_103 hp nx)))))
set_option maxHeartbeats 40000000 in
theorem met_X5_unlikeOnes {l : Launch} {g : zG} {d : Nat} {h0 : Nat} {x1 : Int32} {x2 : Int32} {hp : zHp} {nx : Nat} {Post : Int32 → zHp → Nat → Prop} (hw : wp_X5_unlikeOnes l g d h0 x1 x2 hp nx Post) : zMt l g yX5_unlikeOnes cX5_unlikeOnes 8 (some .int) (d + 1) 0 0 [.ref h0, .int x1, .int x2] hp nx (zQi g Post) := by
  refine z_start (by decide) (Nat.le_of_ble_eq_true rfl) ?_
  intro p e s m below meth c hk hr hin hH hz ls hl
  have hx := hk.1.1
  have hb := hk.1.2.1
  have hown := hk.1.2.2.2.1
  have hts := hk.1.2.2.2.2
  have hS : va_S (zAd g) s.heap s.heap [] := va_S.rf
  have hl : lv_has ls 8 [(0, va_rf (some h0)), (1, .int x1), (2, .int x2)] := hl
  unfold wp_X5_unlikeOnes at hw
  refine lv_iload_n hx hb dX5_unlikeOnes_0 rfl (lv_at hl 2 rfl) ?_
  obtain ⟨P_19, hP_19, hw⟩ := hw
  have hJ_19 : ∀ (x_1 : Int32) (hp_2 : zHp) (nx_3 : Nat) (H : Heap) (locs : List Loc) (ls : Array Slot), P_19 x_1 hp_2 nx_3 → lv_has ls 8 [(0, va_rf (some h0)), (1, .int x1), (2, .int x2)] → zHd g hp_2 H → H.size = nx_3 → va_S (zAd g) s.heap H locs → W p l e (zrm (d + 1) 0 0) s m ([.ref h0, .int x1, .int x2] : List Value).toArray below meth c H locs 0 0 (MQ below (zQi g Post) ([.ref h0, .int x1, .int x2] : List Value).toArray s 0 0 (zAd g)) (F0 m 19 ls [.int x_1]) := by
    intro x_1 hp_2 nx_3 H locs ls hw hl hH hz hS
    have hw := hP_19 x_1 hp_2 nx_3 hw
    refine lv_istore_n (i := 3) (lv' := [(3, .int x_1), (0, va_rf (some h0)), (1, .int x1), (2, .int x2)]) hx hb dX5_unlikeOnes_19 rfl hl (by decide) (by first | rfl | simp [List.filter_cons, z_cat, z_catI, z_catJ, z_catF, z_catD]) (fun ls hl => ?_)
    refine lv_iload_n hx hb dX5_unlikeOnes_20 rfl (lv_at hl 0 rfl) ?_
    refine lv_iconst (v := (-1 : Int32)) hx hb dX5_unlikeOnes_21 (by decide) ?_
    refine lv_icmp_ne (tgt := 27) hx hb dX5_unlikeOnes_22 (by decide) (fun hc => ?_) (fun hc => ?_)
    · have hw := hw.2 hc
      refine lv_iconst (v := (0 : Int32)) hx hb dX5_unlikeOnes_27 (by decide) ?_
      refine lv_istore (lv' := [(4, .int (0 : Int32)), (3, .int x_1), (0, va_rf (some h0)), (1, .int x1), (2, .int x2)]) hx hb dX5_unlikeOnes_28 hl (by decide) (by first | rfl | simp [List.filter_cons, z_cat, z_catI, z_catJ, z_catF, z_catD]) (fun ls hl => ?_)
      refine lv_iconst (v := (0 : Int32)) hx hb dX5_unlikeOnes_30 (by decide) ?_
      refine lv_istore (lv' := [(5, .int (0 : Int32)), (4, .int (0 : Int32)), (3, .int x_1), (0, va_rf (some h0)), (1, .int x1), (2, .int x2)]) hx hb dX5_unlikeOnes_31 hl (by decide) (by first | rfl | simp [List.filter_cons, z_cat, z_catI, z_catJ, z_catF, z_catD]) (fun ls hl => ?_)
      obtain ⟨I_33, ⟨n_95, hI⟩, hB_33⟩ := hw
      have hL_33 : ∀ (n_9 : Nat) (x_4 : Int32) (x_5 : Int32) (x_6 : Int32) (hp_7 : zHp) (nx_8 : Nat) (H : Heap) (locs : List Loc) (ls : Array Slot), I_33 n_9 x_4 x_5 x_6 hp_7 nx_8 → lv_has ls 8 [(0, va_rf (some h0)), (1, .int x1), (2, .int x2), (3, .int x_4), (4, .int x_5), (5, .int x_6)] → zHd g hp_7 H → H.size = nx_8 → va_S (zAd g) s.heap H locs → W p l e (zrm (d + 1) 0 0) s m ([.ref h0, .int x1, .int x2] : List Value).toArray below meth c H locs 0 0 (MQ below (zQi g Post) ([.ref h0, .int x1, .int x2] : List Value).toArray s 0 0 (zAd g)) (F0 m 33 ls []) := by
        intro n_9
        induction n_9 using Nat.strongRecOn with
        | _ n_9 ih_33 =>
          intro x_4 x_5 x_6 hp_7 nx_8 H locs ls hw hl hH hz hS
          have hw := hB_33 n_9 x_4 x_5 x_6 hp_7 nx_8 hw
          refine lv_iload hx hb dX5_unlikeOnes_33 (lv_at hl 5 rfl) ?_
          refine zr_aload_n (r := some h0) hx hb dX5_unlikeOnes_35 rfl (lv_at hl 0 rfl) ?_
          obtain ⟨a_10, ci_11, fs_12, r_13, er, he, hc, hv, hw⟩ := zgR_e hw
          refine zw_get hk hH er he hv (fk_X5_46 hc) dX5_unlikeOnes_36 ?_
          refine lv_iconst (v := (2 : Int32)) hx hb dX5_unlikeOnes_39 (by decide) ?_
          refine lv_iload_n hx hb dX5_unlikeOnes_40 rfl (lv_at hl 1 rfl) ?_
          refine lv_imul hx hb dX5_unlikeOnes_41 ?_
          refine lv_iload_n hx hb dX5_unlikeOnes_42 rfl (lv_at hl 2 rfl) ?_
          refine lv_iadd hx hb dX5_unlikeOnes_43 ?_
          obtain ⟨a_14, n_15, f_16, er, he, hi, hw⟩ := zaI_e hw
          have hw := hw _ rfl
          refine zw_iald hk hH er he hi dX5_unlikeOnes_44 ?_
          generalize f_16 (((2 : Int32) * x1) + x2).toNatClampNeg = x_17 at hw ⊢
          refine lv_icmp_ge (tgt := 139) hx hb dX5_unlikeOnes_45 (by decide) (fun hc => ?_) (fun hc => ?_)
          · have hw := hw.1 hc
            refine lv_iload hx hb dX5_unlikeOnes_139 (lv_at hl 4 rfl) ?_
            exact zr_iret hk hr hH hz hS hw (Nat.le_of_ble_eq_true rfl) (Nat.le_of_ble_eq_true rfl) dX5_unlikeOnes_141
          · have hw := hw.2 hc
            refine lv_iconst (v := (1 : Int32)) hx hb dX5_unlikeOnes_48 (by decide) ?_
            refine lv_istore (lv' := [(6, .int (1 : Int32)), (0, va_rf (some h0)), (1, .int x1), (2, .int x2), (3, .int x_4), (4, .int x_5), (5, .int x_6)]) hx hb dX5_unlikeOnes_49 hl (by decide) (by first | rfl | simp [List.filter_cons, z_cat, z_catI, z_catJ, z_catF, z_catD]) (fun ls hl => ?_)
            refine lv_iconst (v := (0 : Int32)) hx hb dX5_unlikeOnes_51 (by decide) ?_
            refine lv_istore (lv' := [(7, .int (0 : Int32)), (6, .int (1 : Int32)), (0, va_rf (some h0)), (1, .int x1), (2, .int x2), (3, .int x_4), (4, .int x_5), (5, .int x_6)]) hx hb dX5_unlikeOnes_52 hl (by decide) (by first | rfl | simp [List.filter_cons, z_cat, z_catI, z_catJ, z_catF, z_catD]) (fun ls hl => ?_)
            obtain ⟨I_54, ⟨n_94, hI⟩, hB_54⟩ := hw
            have hL_54 : ∀ (n_25 : Nat) (x_18 : Int32) (x_19 : Int32) (x_20 : Int32) (x_21 : Int32) (x_22 : Int32) (hp_23 : zHp) (nx_24 : Nat) (H : Heap) (locs : List Loc) (ls : Array Slot), I_54 n_25 x_18 x_19 x_20 x_21 x_22 hp_23 nx_24 → lv_has ls 8 [(0, va_rf (some h0)), (1, .int x1), (2, .int x2), (3, .int x_18), (4, .int x_19), (5, .int x_20), (6, .int x_21), (7, .int x_22)] → zHd g hp_23 H → H.size = nx_24 → va_S (zAd g) s.heap H locs → W p l e (zrm (d + 1) 0 0) s m ([.ref h0, .int x1, .int x2] : List Value).toArray below meth c H locs 0 0 (MQ below (zQi g Post) ([.ref h0, .int x1, .int x2] : List Value).toArray s 0 0 (zAd g)) (F0 m 54 ls []) := by
              intro n_25
              induction n_25 using Nat.strongRecOn with
              | _ n_25 ih_54 =>
                intro x_18 x_19 x_20 x_21 x_22 hp_23 nx_24 H locs ls hw hl hH hz hS
                have hw := hB_54 n_25 x_18 x_19 x_20 x_21 x_22 hp_23 nx_24 hw
                refine lv_iload hx hb dX5_unlikeOnes_54 (lv_at hl 7 rfl) ?_
                refine lv_iload hx hb dX5_unlikeOnes_56 (lv_at hl 5 rfl) ?_
                refine lv_icmp_ge (tgt := 125) hx hb dX5_unlikeOnes_58 (by decide) (fun hc => ?_) (fun hc => ?_)
                · have hw := hw.1 hc
                  refine lv_iload hx hb dX5_unlikeOnes_125 (lv_at hl 6 rfl) ?_
                  obtain ⟨P_133, hP_133, hw⟩ := hw
                  have hJ_133 : ∀ (x_26 : Int32) (x_27 : Int32) (x_28 : Int32) (x_29 : Int32) (x_30 : Int32) (hp_31 : zHp) (nx_32 : Nat) (H : Heap) (locs : List Loc) (ls : Array Slot), P_133 x_26 x_27 x_28 x_29 x_30 hp_31 nx_32 → lv_has ls 8 [(0, va_rf (some h0)), (1, .int x1), (2, .int x2), (3, .int x_26), (4, .int x_27), (5, .int x_28), (6, .int x_29), (7, .int x_30)] → zHd g hp_31 H → H.size = nx_32 → va_S (zAd g) s.heap H locs → W p l e (zrm (d + 1) 0 0) s m ([.ref h0, .int x1, .int x2] : List Value).toArray below meth c H locs 0 0 (MQ below (zQi g Post) ([.ref h0, .int x1, .int x2] : List Value).toArray s 0 0 (zAd g)) (F0 m 133 ls []) := by
                    intro x_26 x_27 x_28 x_29 x_30 hp_31 nx_32 H locs ls hw hl hH hz hS
                    have hw := hP_133 x_26 x_27 x_28 x_29 x_30 hp_31 nx_32 hw
                    obtain ⟨x_33, ex_33⟩ : ∃ y : Int32, y = x_28 + (1 : Int32) := ⟨_, rfl⟩
                    have hw := hw x_33 ex_33
                    refine lv_iinc (v := x_33) (lv' := [(5, .int x_33), (0, va_rf (some h0)), (1, .int x1), (2, .int x2), (3, .int x_26), (4, .int x_27), (6, .int x_29), (7, .int x_30)]) hx hb dX5_unlikeOnes_133 hl (k := 5) rfl (by rw [ex_33]; rfl) (by decide) (by first | rfl | simp [List.filter_cons, z_cat, z_catI, z_catJ, z_catF, z_catD]) (fun ls hl => ?_)
                    refine lv_goto (tgt := 33) hx hb dX5_unlikeOnes_136 (by decide) ?_
                    obtain ⟨k_34, hlt, hw⟩ := hw
                    exact ih_33 k_34 hlt x_26 x_27 x_33 hp_31 nx_32 _ _ _ hw (lv_sub hl [1, 2, 3, 4, 5, 0] rfl) hH hz hS
                  refine lv_if_eq (tgt := 133) hx hb dX5_unlikeOnes_127 (by decide) (fun hc => ?_) (fun hc => ?_)
                  · have hw := hw.1 hc
                    exact hJ_133 x_18 x_19 x_20 x_21 x_22 hp_23 nx_24 _ _ _ hw hl hH hz hS
                  · have hw := hw.2 hc
                    obtain ⟨x_35, ex_35⟩ : ∃ y : Int32, y = x_19 + (1 : Int32) := ⟨_, rfl⟩
                    have hw := hw x_35 ex_35
                    refine lv_iinc (v := x_35) (lv' := [(4, .int x_35), (0, va_rf (some h0)), (1, .int x1), (2, .int x2), (3, .int x_18), (5, .int x_20), (6, .int x_21), (7, .int x_22)]) hx hb dX5_unlikeOnes_130 hl (k := 4) rfl (by rw [ex_35]; rfl) (by decide) (by first | rfl | simp [List.filter_cons, z_cat, z_catI, z_catJ, z_catF, z_catD]) (fun ls hl => ?_)
                    exact hJ_133 x_18 x_35 x_20 x_21 x_22 hp_23 nx_24 _ _ _ hw (lv_sub hl [1, 2, 3, 4, 0, 5, 6, 7] rfl) hH hz hS
                · have hw := hw.2 hc
                  refine lv_iload hx hb dX5_unlikeOnes_61 (lv_at hl 6 rfl) ?_
                  refine zr_aload_n (r := some h0) hx hb dX5_unlikeOnes_63 rfl (lv_at hl 0 rfl) ?_
                  obtain ⟨a_36, ci_37, fs_38, r_39, er, he, hc, hv, hw⟩ := zgR_e hw
                  refine zw_get hk hH er he hv (fk_X5_9 hc) dX5_unlikeOnes_64 ?_
                  refine lv_iload_n hx hb dX5_unlikeOnes_67 rfl (lv_at hl 3 rfl) ?_
                  obtain ⟨a_40, n_41, f_42, er, he, hi, hw⟩ := zaI_e hw
                  have hw := hw _ rfl
                  refine zw_iald hk hH er he hi dX5_unlikeOnes_68 ?_
                  generalize f_42 x_18.toNatClampNeg = x_43 at hw ⊢
                  refine zr_aload_n (r := some h0) hx hb dX5_unlikeOnes_69 rfl (lv_at hl 0 rfl) ?_
                  obtain ⟨a_44, ci_45, fs_46, r_47, er, he, hc, hv, hw⟩ := zgR_e hw
                  refine zw_get hk hH er he hv (fk_X5_49 hc) dX5_unlikeOnes_70 ?_
                  refine lv_iconst (v := (2 : Int32)) hx hb dX5_unlikeOnes_73 (by decide) ?_
                  refine lv_iload_n hx hb dX5_unlikeOnes_74 rfl (lv_at hl 1 rfl) ?_
                  refine lv_imul hx hb dX5_unlikeOnes_75 ?_
                  refine lv_iload_n hx hb dX5_unlikeOnes_76 rfl (lv_at hl 2 rfl) ?_
                  refine lv_iadd hx hb dX5_unlikeOnes_77 ?_
                  obtain ⟨a_48, n_49, f_50, er, he, hi, hw⟩ := zaR_e hw
                  have hw := hw _ rfl
                  refine zw_aald hk hH 15 er he rfl rfl hi dX5_unlikeOnes_78 ?_
                  generalize f_50 (((2 : Int32) * x1) + x2).toNatClampNeg = r_51 at hw ⊢
                  refine lv_iload hx hb dX5_unlikeOnes_79 (lv_at hl 7 rfl) ?_
                  obtain ⟨a_52, n_53, f_54, er, he, hi, hw⟩ := zaD_e hw
                  have hw := hw _ rfl
                  refine zw_dald hk hH er he hi dX5_unlikeOnes_81 ?_
                  generalize f_54 x_22.toNatClampNeg = x_55 at hw ⊢
                  refine zr_calld (zr_runS (As := [.int x_43, .double x_55]) hk hH hz hS hl.1 hw (va_cwS 2 hts (lw_S q2924 q2925 q162 q2926) rfl rfl rfl (by decide +kernel) (z_room (Nat.le_of_ble_eq_true rfl))) rfl rfl (Nat.le_of_ble_eq_true rfl) dX5_unlikeOnes_82 ⟨Nat.le_of_ble_eq_true rfl, Nat.le_of_ble_eq_true rfl⟩) hS (fun x_58 hp_56 nx_57 hw H locs hH hz hS => ?_)
                  refine zr_aload_n (r := some h0) hx hb dX5_unlikeOnes_85 rfl (lv_at hl 0 rfl) ?_
                  obtain ⟨a_59, ci_60, fs_61, r_62, er, he, hc, hv, hw⟩ := zgR_e hw
                  refine zw_get hk hH er he hv (fk_X5_9 hc) dX5_unlikeOnes_86 ?_
                  refine lv_iload_n hx hb dX5_unlikeOnes_89 rfl (lv_at hl 3 rfl) ?_
                  obtain ⟨a_63, n_64, f_65, er, he, hi, hw⟩ := zaI_e hw
                  have hw := hw _ rfl
                  refine zw_iald hk hH er he hi dX5_unlikeOnes_90 ?_
                  generalize f_65 x_18.toNatClampNeg = x_66 at hw ⊢
                  refine zr_aload_n (r := some h0) hx hb dX5_unlikeOnes_91 rfl (lv_at hl 0 rfl) ?_
                  obtain ⟨a_67, ci_68, fs_69, r_70, er, he, hc, hv, hw⟩ := zgR_e hw
                  refine zw_get hk hH er he hv (fk_X5_49 hc) dX5_unlikeOnes_92 ?_
                  refine lv_iconst (v := (2 : Int32)) hx hb dX5_unlikeOnes_95 (by decide) ?_
                  refine lv_iload_n hx hb dX5_unlikeOnes_96 rfl (lv_at hl 1 rfl) ?_
                  refine lv_imul hx hb dX5_unlikeOnes_97 ?_
                  refine lv_iload_n hx hb dX5_unlikeOnes_98 rfl (lv_at hl 2 rfl) ?_
                  refine lv_iadd hx hb dX5_unlikeOnes_99 ?_
                  obtain ⟨a_71, n_72, f_73, er, he, hi, hw⟩ := zaR_e hw
                  have hw := hw _ rfl
                  refine zw_aald hk hH 15 er he rfl rfl hi dX5_unlikeOnes_100 ?_
                  generalize f_73 (((2 : Int32) * x1) + x2).toNatClampNeg = r_74 at hw ⊢
                  refine lv_iload hx hb dX5_unlikeOnes_101 (lv_at hl 5 rfl) ?_
                  obtain ⟨a_75, n_76, f_77, er, he, hi, hw⟩ := zaD_e hw
                  have hw := hw _ rfl
                  refine zw_dald hk hH er he hi dX5_unlikeOnes_103 ?_
                  generalize f_77 x_20.toNatClampNeg = x_78 at hw ⊢
                  refine zr_calld (zr_runS (As := [.int x_66, .double x_78]) hk hH hz hS hl.1 hw (va_cwS 2 hts (lw_S q2924 q2925 q162 q2926) rfl rfl rfl (by decide +kernel) (z_room (Nat.le_of_ble_eq_true rfl))) rfl rfl (Nat.le_of_ble_eq_true rfl) dX5_unlikeOnes_104 ⟨Nat.le_of_ble_eq_true rfl, Nat.le_of_ble_eq_true rfl⟩) hS (fun x_81 hp_79 nx_80 hw H locs hH hz hS => ?_)
                  refine lv_dcmp hx hb dX5_unlikeOnes_107 ?_
                  obtain ⟨P_116, hP_116, hw⟩ := hw
                  have hJ_116 : ∀ (x_82 : Int32) (x_83 : Int32) (x_84 : Int32) (x_85 : Int32) (x_86 : Int32) (x_87 : Int32) (x_88 : Int32) (hp_89 : zHp) (nx_90 : Nat) (H : Heap) (locs : List Loc) (ls : Array Slot), P_116 x_82 x_83 x_84 x_85 x_86 x_87 x_88 hp_89 nx_90 → lv_has ls 8 [(0, va_rf (some h0)), (1, .int x1), (2, .int x2), (3, .int x_82), (4, .int x_83), (5, .int x_84), (6, .int x_85), (7, .int x_86)] → zHd g hp_89 H → H.size = nx_90 → va_S (zAd g) s.heap H locs → W p l e (zrm (d + 1) 0 0) s m ([.ref h0, .int x1, .int x2] : List Value).toArray below meth c H locs 0 0 (MQ below (zQi g Post) ([.ref h0, .int x1, .int x2] : List Value).toArray s 0 0 (zAd g)) (F0 m 116 ls [.int x_88, .int x_87]) := by
                    intro x_82 x_83 x_84 x_85 x_86 x_87 x_88 hp_89 nx_90 H locs ls hw hl hH hz hS
                    have hw := hP_116 x_82 x_83 x_84 x_85 x_86 x_87 x_88 hp_89 nx_90 hw
                    refine lv_iand hx hb dX5_unlikeOnes_116 ?_
                    refine lv_topi (fun x_91 ex_91 => ?_)
                    have hw := hw x_91 ex_91
                    refine lv_istore (lv' := [(6, .int x_91), (0, va_rf (some h0)), (1, .int x1), (2, .int x2), (3, .int x_82), (4, .int x_83), (5, .int x_84), (7, .int x_86)]) hx hb dX5_unlikeOnes_117 hl (by decide) (by first | rfl | simp [List.filter_cons, z_cat, z_catI, z_catJ, z_catF, z_catD]) (fun ls hl => ?_)
                    obtain ⟨x_92, ex_92⟩ : ∃ y : Int32, y = x_86 + (1 : Int32) := ⟨_, rfl⟩
                    have hw := hw x_92 ex_92
                    refine lv_iinc (v := x_92) (lv' := [(7, .int x_92), (6, .int x_91), (0, va_rf (some h0)), (1, .int x1), (2, .int x2), (3, .int x_82), (4, .int x_83), (5, .int x_84)]) hx hb dX5_unlikeOnes_119 hl (k := 7) rfl (by rw [ex_92]; rfl) (by decide) (by first | rfl | simp [List.filter_cons, z_cat, z_catI, z_catJ, z_catF, z_catD]) (fun ls hl => ?_)
                    refine lv_goto (tgt := 54) hx hb dX5_unlikeOnes_122 (by decide) ?_
                    obtain ⟨k_93, hlt, hw⟩ := hw
                    exact ih_54 k_93 hlt x_82 x_83 x_84 x_91 x_92 hp_89 nx_90 _ _ _ hw (lv_sub hl [2, 3, 4, 5, 6, 7, 1, 0] rfl) hH hz hS
                  refine lv_if_eq (tgt := 115) hx hb dX5_unlikeOnes_108 (by decide) (fun hc => ?_) (fun hc => ?_)
                  · have hw := hw.1 hc
                    refine lv_iconst (v := (0 : Int32)) hx hb dX5_unlikeOnes_115 (by decide) ?_
                    exact hJ_116 x_18 x_19 x_20 x_21 x_22 x_21 (0 : Int32) hp_79 nx_80 _ _ _ hw hl hH hz hS
                  · have hw := hw.2 hc
                    refine lv_iconst (v := (1 : Int32)) hx hb dX5_unlikeOnes_111 (by decide) ?_
                    refine lv_goto (tgt := 116) hx hb dX5_unlikeOnes_112 (by decide) ?_
                    exact hJ_116 x_18 x_19 x_20 x_21 x_22 x_21 (1 : Int32) hp_79 nx_80 _ _ _ hw hl hH hz hS
            exact hL_54 n_94 x_4 x_5 x_6 (1 : Int32) (0 : Int32) hp_7 nx_8 _ _ _ hI (lv_sub hl [2, 3, 4, 5, 6, 7, 1, 0] rfl) hH hz hS
      exact hL_33 n_95 x_1 (0 : Int32) (0 : Int32) hp_2 nx_3 _ _ _ hI (lv_sub hl [3, 4, 5, 2, 1, 0] rfl) hH hz hS
    · have hw := hw.1 hc
      refine lv_iconst (v := (0 : Int32)) hx hb dX5_unlikeOnes_25 (by decide) ?_
      exact zr_iret hk hr hH hz hS hw (Nat.le_of_ble_eq_true rfl) (Nat.le_of_ble_eq_true rfl) dX5_unlikeOnes_26
  refine lv_if_ne (tgt := 13) hx hb dX5_unlikeOnes_1 (by decide) (fun hc => ?_) (fun hc => ?_)
  · have hw := hw.2 hc
    refine zr_aload_n (r := some h0) hx hb dX5_unlikeOnes_13 rfl (lv_at hl 0 rfl) ?_
    obtain ⟨a_96, ci_97, fs_98, r_99, er, he, hc, hv, hw⟩ := zgR_e hw
    refine zw_get hk hH er he hv (fk_X5_43 hc) dX5_unlikeOnes_14 ?_
    refine lv_iload_n hx hb dX5_unlikeOnes_17 rfl (lv_at hl 1 rfl) ?_
    obtain ⟨a_100, n_101, f_102, er, he, hi, hw⟩ := zaI_e hw
    have hw := hw _ rfl
    refine zw_iald hk hH er he hi dX5_unlikeOnes_18 ?_
    generalize f_102 x1.toNatClampNeg = x_103 at hw ⊢
    exact hJ_19 x_103 hp nx _ _ _ hw hl hH hz hS
  · have hw := hw.1 hc
    refine zr_aload_n (r := some h0) hx hb dX5_unlikeOnes_4 rfl (lv_at hl 0 rfl) ?_
    obtain ⟨a_104, ci_105, fs_106, r_107, er, he, hc, hv, hw⟩ := zgR_e hw
    refine zw_get hk hH er he hv (fk_X5_40 hc) dX5_unlikeOnes_5 ?_
    refine lv_iload_n hx hb dX5_unlikeOnes_8 rfl (lv_at hl 1 rfl) ?_
    obtain ⟨a_108, n_109, f_110, er, he, hi, hw⟩ := zaI_e hw
    have hw := hw _ rfl
    refine zw_iald hk hH er he hi dX5_unlikeOnes_9 ?_
    generalize f_110 x1.toNatClampNeg = x_111 at hw ⊢
    refine lv_goto (tgt := 19) hx hb dX5_unlikeOnes_10 (by decide) ?_
    exact hJ_19 x_111 hp nx _ _ _ hw hl hH hz hS
theorem fk_X5_120 {ci : Nat} (h : ci ∈ [5]) : zFk "WhatIfSheetModel" 120 ci 50 := by
  simp only [List.mem_cons, List.not_mem_nil, or_false] at h
  rcases h with rfl
  · exact ⟨RX5, TX5, 76, rfl, by decide, q2724⟩
def wp_X5_toldLeast (l : Launch) (g : zG) (d : Nat) (h0 : Nat) (x1 : Int32) (hp : zHp) (nx : Nat) (Post : Int32 → zHp → Nat → Prop) : Prop :=
  (zgR hp (some h0) [5] 49 fun r_4 =>
  (zaI (g.2.1 3) hp r_4 fun a_5 n_6 f_7 => vp_in x1 n_6 ∧ ∀ x_8 : Int32, x_8 = f_7 x1.toNatClampNeg →
  ((x_8 = 0 →
  (zgR hp (some h0) [5] 7 fun r_12 =>
  (zaI (g.2.1 0) hp r_12 fun a_13 n_14 f_15 => vp_in x1 n_14 ∧ ∀ x_16 : Int32, x_16 = f_15 x1.toNatClampNeg →
  (zo hp (some h0) [5] fun a_160 ci_161 fs_162 => zMt l g yX5_reached cX5_reached 5 (some .int) d 0 0 (.ref a_160 :: [.int x_16]) hp nx (zQi g fun x_19 hp_17 nx_18 =>
  (∃ I_32 : Nat → Int32 → Int32 → Int32 → zHp → Nat → Prop, (∃ n_159, I_32 n_159 (0 : Int32) x_19 (0 : Int32) hp_17 nx_18) ∧ ∀ (n_25 : Nat) (x_20 : Int32) (x_21 : Int32) (x_22 : Int32) (hp_23 : zHp) (nx_24 : Nat), I_32 n_25 x_20 x_21 x_22 hp_23 nx_24 →
  (((24 : Int32) ≤ x_22 →
  (zgR hp_23 (some h0) [5] 49 fun r_29 =>
  (zaI (g.2.1 3) hp_23 r_29 fun a_30 n_31 f_32 => vp_in x1 n_31 ∧ zB g ≤ a_30 ∧ ∀ hp_33 : zHp, hp_33 = va_up hp_23 a_30 (some (.inl (g.2.1 3, n_31, .inl (va_up f_32 x1.toNatClampNeg (vp_nar .boolean (1 : Int32)))))) →
  (zgR hp_33 (some h0) [5] 50 fun r_37 =>
  (zaI (g.2.1 0) hp_33 r_37 fun a_38 n_39 f_40 => vp_in x1 n_39 ∧ zB g ≤ a_38 ∧ ∀ hp_41 : zHp, hp_41 = va_up hp_33 a_38 (some (.inl (g.2.1 0, n_39, .inl (va_up f_40 x1.toNatClampNeg x_20)))) →
  (Post x_20 hp_41 nx_24)))))) ∧
  (¬ (24 : Int32) ≤ x_22 →
  (∃ P_195 : Int32 → Int32 → Int32 → zHp → Nat → Prop, (∀ (x_42 : Int32) (x_43 : Int32) (x_44 : Int32) (hp_45 : zHp) (nx_46 : Nat), P_195 x_42 x_43 x_44 hp_45 nx_46 →
  (∀ x_47 : Int32, x_47 = x_44 + (1 : Int32) →
  (∃ k_48, k_48 < n_25 ∧ I_32 k_48 x_42 x_43 x_47 hp_45 nx_46))) ∧
  ((((x_21 >>> (x_22 &&& 31)) &&& (1 : Int32)) = 0 →
  P_195 x_20 x_21 x_22 hp_23 nx_24) ∧
  (¬ ((x_21 >>> (x_22 &&& 31)) &&& (1 : Int32)) = 0 →
  (zo hp_23 (some h0) [5] fun a_156 ci_157 fs_158 => zMt l g yX5_isInput cX5_isInput 2 (some .boolean) d 0 0 (.ref a_156 :: [.int x_22]) hp_23 nx_24 (zQi g fun x_51 hp_49 nx_50 =>
  ((x_51 = 0 →
  (∃ I_66 : Nat → Int32 → Int32 → Int32 → Int32 → Int32 → zHp → Nat → Prop, (∃ n_155, I_66 n_155 x_20 x_21 x_22 (1 : Int32) (0 : Int32) hp_49 nx_50) ∧ ∀ (n_59 : Nat) (x_52 : Int32) (x_53 : Int32) (x_54 : Int32) (x_55 : Int32) (x_56 : Int32) (hp_57 : zHp) (nx_58 : Nat), I_66 n_59 x_52 x_53 x_54 x_55 x_56 hp_57 nx_58 →
  (((6 : Int32) ≤ x_56 →
  (zo hp_57 (some h0) [5] fun a_116 ci_117 fs_118 => zMt l g yX5_reads cX5_reads 3 (some .int) d 0 0 (.ref a_116 :: [.int x_54]) hp_57 nx_58 (zQi g fun x_62 hp_60 nx_61 =>
  (zgR hp_60 (some h0) [5] 8 fun r_66 =>
  (zaI (g.2.1 0) hp_60 r_66 fun a_67 n_68 f_69 => vp_in x1 n_68 ∧ ∀ x_70 : Int32, x_70 = f_69 x1.toNatClampNeg →
  (∃ P_154 : Int32 → Int32 → Int32 → Int32 → Int32 → zHp → Nat → Prop, (∀ (x_71 : Int32) (x_72 : Int32) (x_73 : Int32) (x_74 : Int32) (x_75 : Int32) (hp_76 : zHp) (nx_77 : Nat), P_154 x_71 x_72 x_73 x_74 x_75 hp_76 nx_77 →
  (zgR hp_76 (some h0) [5] 9 fun r_81 =>
  (zaI (g.2.1 0) hp_76 r_81 fun a_82 n_83 f_84 => vp_in x1 n_83 ∧ ∀ x_85 : Int32, x_85 = f_84 x1.toNatClampNeg →
  (∃ P_190 : Int32 → Int32 → Int32 → Int32 → Int32 → zHp → Nat → Prop, (∀ (x_86 : Int32) (x_87 : Int32) (x_88 : Int32) (x_89 : Int32) (x_90 : Int32) (hp_91 : zHp) (nx_92 : Nat), P_190 x_86 x_87 x_88 x_89 x_90 hp_91 nx_92 →
  (∀ x_93 : Int32, x_93 = x_86 + x_89 →
  P_195 x_93 x_87 x_88 hp_91 nx_92)) ∧
  ((x_85 = (-1 : Int32) →
  P_190 x_71 x_72 x_73 x_74 x_75 hp_76 nx_77) ∧
  (¬ x_85 = (-1 : Int32) →
  (zgR hp_76 (some h0) [5] 9 fun r_97 =>
  (zaI (g.2.1 0) hp_76 r_97 fun a_98 n_99 f_100 => vp_in x1 n_99 ∧ ∀ x_101 : Int32, x_101 = f_100 x1.toNatClampNeg →
  ((((x_75 >>> (x_101 &&& 31)) &&& (1 : Int32)) = (1 : Int32) →
  (zo hp_76 (some h0) [5] fun a_106 ci_107 fs_108 => zMt l g yX5_unlikeOnes cX5_unlikeOnes 8 (some .int) d 0 0 (.ref a_106 :: [.int x1, .int (1 : Int32)]) hp_76 nx_77 (zQi g fun x_104 hp_102 nx_103 =>
  (∀ x_105 : Int32, x_105 = x_74 * x_104 →
  P_190 x_71 x_72 x_73 x_105 x_75 hp_102 nx_103)))) ∧
  (¬ ((x_75 >>> (x_101 &&& 31)) &&& (1 : Int32)) = (1 : Int32) →
  P_190 x_71 x_72 x_73 x_74 x_75 hp_76 nx_77)))))))))) ∧
  ((((x_62 >>> (x_70 &&& 31)) &&& (1 : Int32)) = (1 : Int32) →
  (zo hp_60 (some h0) [5] fun a_113 ci_114 fs_115 => zMt l g yX5_unlikeOnes cX5_unlikeOnes 8 (some .int) d 0 0 (.ref a_113 :: [.int x1, .int (0 : Int32)]) hp_60 nx_61 (zQi g fun x_111 hp_109 nx_110 =>
  (∀ x_112 : Int32, x_112 = x_55 * x_111 →
  P_154 x_52 x_53 x_54 x_112 x_62 hp_109 nx_110)))) ∧
  (¬ ((x_62 >>> (x_70 &&& 31)) &&& (1 : Int32)) = (1 : Int32) →
  P_154 x_52 x_53 x_54 x_55 x_62 hp_60 nx_61)))))))) ∧
  (¬ (6 : Int32) ≤ x_56 →
  (zgR hp_57 (some h0) [5] 6 fun r_122 =>
  (zaI (g.2.1 3) hp_57 r_122 fun a_123 n_124 f_125 => vp_in x_56 n_124 ∧ ∀ x_126 : Int32, x_126 = f_125 x_56.toNatClampNeg →
  (∃ P_114 : Int32 → Int32 → Int32 → Int32 → Int32 → zHp → Nat → Prop, (∀ (x_127 : Int32) (x_128 : Int32) (x_129 : Int32) (x_130 : Int32) (x_131 : Int32) (hp_132 : zHp) (nx_133 : Nat), P_114 x_127 x_128 x_129 x_130 x_131 hp_132 nx_133 →
  (∀ x_134 : Int32, x_134 = x_131 + (1 : Int32) →
  (∃ k_135, k_135 < n_59 ∧ I_66 k_135 x_127 x_128 x_129 x_130 x_134 hp_132 nx_133))) ∧
  ((x_126 = 0 →
  P_114 x_52 x_53 x_54 x_55 x_56 hp_57 nx_58) ∧
  (¬ x_126 = 0 →
  (zo hp_57 (some h0) [5] fun a_152 ci_153 fs_154 => zMt l g yX5_times cX5_times 3 (some .int) d 0 0 (.ref a_152 :: [.int x_54, .int x_56]) hp_57 nx_58 (zQi g fun x_138 hp_136 nx_137 =>
  ((x_138 ≤ 0 →
  P_114 x_52 x_53 x_54 x_55 x_56 hp_136 nx_137) ∧
  (¬ x_138 ≤ 0 →
  (zo hp_136 (some h0) [5] fun a_149 ci_150 fs_151 => zMt l g yX5_times cX5_times 3 (some .int) d 0 0 (.ref a_149 :: [.int x_54, .int x_56]) hp_136 nx_137 (zQi g fun x_141 hp_139 nx_140 =>
  (zo hp_139 (some h0) [5] fun a_146 ci_147 fs_148 => zMt l g yX5_toldLeast cX5_toldLeast 7 (some .int) d 0 0 (.ref a_146 :: [.int x_56]) hp_139 nx_140 (zQi g fun x_144 hp_142 nx_143 =>
  (∀ x_145 : Int32, x_145 = x_55 + (x_141 * x_144) →
  P_114 x_52 x_53 x_54 x_145 x_56 hp_142 nx_143)))))))))))))))))) ∧
  (¬ x_51 = 0 →
  P_195 x_20 x_21 x_22 hp_49 nx_50))))))))))))))) ∧
  (¬ x_8 = 0 →
  (zgR hp (some h0) [5] 50 fun r_166 =>
  (zaI (g.2.1 0) hp r_166 fun a_167 n_168 f_169 => vp_in x1 n_168 ∧ ∀ x_170 : Int32, x_170 = f_169 x1.toNatClampNeg →
  (Post x_170 hp nx)))))))
set_option maxHeartbeats 40000000 in
theorem met_X5_toldLeast {l : Launch} {g : zG} {d : Nat} {h0 : Nat} {x1 : Int32} {hp : zHp} {nx : Nat} {Post : Int32 → zHp → Nat → Prop} (hw : wp_X5_toldLeast l g d h0 x1 hp nx Post) : zMt l g yX5_toldLeast cX5_toldLeast 7 (some .int) (d + 1) 0 0 [.ref h0, .int x1] hp nx (zQi g Post) := by
  refine z_start (by decide) (Nat.le_of_ble_eq_true rfl) ?_
  intro p e s m below meth c hk hr hin hH hz ls hl
  have hx := hk.1.1
  have hb := hk.1.2.1
  have hown := hk.1.2.2.2.1
  have hts := hk.1.2.2.2.2
  have hS : va_S (zAd g) s.heap s.heap [] := va_S.rf
  have hl : lv_has ls 7 [(0, va_rf (some h0)), (1, .int x1)] := hl
  unfold wp_X5_toldLeast at hw
  refine zr_aload_n (r := some h0) hx hb dX5_toldLeast_0 rfl (lv_at hl 0 rfl) ?_
  obtain ⟨a_1, ci_2, fs_3, r_4, er, he, hc, hv, hw⟩ := zgR_e hw
  refine zw_get hk hH er he hv (fk_X5_117 hc) dX5_toldLeast_1 ?_
  refine lv_iload_n hx hb dX5_toldLeast_4 rfl (lv_at hl 1 rfl) ?_
  obtain ⟨a_5, n_6, f_7, er, he, hi, hw⟩ := zaI_e hw
  have hw := hw _ rfl
  refine zw_zald hk hH er he hi dX5_toldLeast_5 ?_
  generalize f_7 x1.toNatClampNeg = x_8 at hw ⊢
  refine lv_if_eq (tgt := 16) hx hb dX5_toldLeast_6 (by decide) (fun hc => ?_) (fun hc => ?_)
  · have hw := hw.1 hc
    refine lv_iconst (v := (0 : Int32)) hx hb dX5_toldLeast_16 (by decide) ?_
    refine lv_istore_n (i := 2) (lv' := [(2, .int (0 : Int32)), (0, va_rf (some h0)), (1, .int x1)]) hx hb dX5_toldLeast_17 rfl hl (by decide) (by first | rfl | simp [List.filter_cons, z_cat, z_catI, z_catJ, z_catF, z_catD]) (fun ls hl => ?_)
    refine zr_aload_n (r := some h0) hx hb dX5_toldLeast_18 rfl (lv_at hl 1 rfl) ?_
    refine zr_aload_n (r := some h0) hx hb dX5_toldLeast_19 rfl (lv_at hl 1 rfl) ?_
    obtain ⟨a_9, ci_10, fs_11, r_12, er, he, hc, hv, hw⟩ := zgR_e hw
    refine zw_get hk hH er he hv (fk_X5_37 hc) dX5_toldLeast_20 ?_
    refine lv_iload_n hx hb dX5_toldLeast_23 rfl (lv_at hl 2 rfl) ?_
    obtain ⟨a_13, n_14, f_15, er, he, hi, hw⟩ := zaI_e hw
    have hw := hw _ rfl
    refine zw_iald hk hH er he hi dX5_toldLeast_24 ?_
    generalize f_15 x1.toNatClampNeg = x_16 at hw ⊢
    obtain ⟨a_160, ci_161, fs_162, er, he, hc, hw⟩ := zo_e hw
    obtain rfl := List.mem_singleton.mp hc
    refine zr_calli (zw_runV (As := [.int x_16]) hk hH hz hS hl.1 er hw (cwV 1 hts (lw_V q2969 q2971 qs76 q162 q2972) rfl rfl rfl (by decide +kernel) (z_room (Nat.le_of_ble_eq_true rfl))) he rfl rfl rfl (Nat.le_of_ble_eq_true rfl) dX5_toldLeast_25 ⟨Nat.le_of_ble_eq_true rfl, Nat.le_of_ble_eq_true rfl⟩) hS (fun x_19 hp_17 nx_18 hw H locs hH hz hS => ?_)
    refine lv_istore_n (i := 3) (lv' := [(3, .int x_19), (2, .int (0 : Int32)), (0, va_rf (some h0)), (1, .int x1)]) hx hb dX5_toldLeast_28 rfl hl (by decide) (by first | rfl | simp [List.filter_cons, z_cat, z_catI, z_catJ, z_catF, z_catD]) (fun ls hl => ?_)
    refine lv_iconst (v := (0 : Int32)) hx hb dX5_toldLeast_29 (by decide) ?_
    refine lv_istore (lv' := [(4, .int (0 : Int32)), (3, .int x_19), (2, .int (0 : Int32)), (0, va_rf (some h0)), (1, .int x1)]) hx hb dX5_toldLeast_30 hl (by decide) (by first | rfl | simp [List.filter_cons, z_cat, z_catI, z_catJ, z_catF, z_catD]) (fun ls hl => ?_)
    obtain ⟨I_32, ⟨n_159, hI⟩, hB_32⟩ := hw
    have hL_32 : ∀ (n_25 : Nat) (x_20 : Int32) (x_21 : Int32) (x_22 : Int32) (hp_23 : zHp) (nx_24 : Nat) (H : Heap) (locs : List Loc) (ls : Array Slot), I_32 n_25 x_20 x_21 x_22 hp_23 nx_24 → lv_has ls 7 [(0, va_rf (some h0)), (1, .int x1), (2, .int x_20), (3, .int x_21), (4, .int x_22)] → zHd g hp_23 H → H.size = nx_24 → va_S (zAd g) s.heap H locs → W p l e (zrm (d + 1) 0 0) s m ([.ref h0, .int x1] : List Value).toArray below meth c H locs 0 0 (MQ below (zQi g Post) ([.ref h0, .int x1] : List Value).toArray s 0 0 (zAd g)) (F0 m 32 ls []) := by
      intro n_25
      induction n_25 using Nat.strongRecOn with
      | _ n_25 ih_32 =>
        intro x_20 x_21 x_22 hp_23 nx_24 H locs ls hw hl hH hz hS
        have hw := hB_32 n_25 x_20 x_21 x_22 hp_23 nx_24 hw
        refine lv_iload hx hb dX5_toldLeast_32 (lv_at hl 4 rfl) ?_
        refine lv_bipush (v := (24 : Int32)) hx hb dX5_toldLeast_34 (by decide) ?_
        refine lv_icmp_ge (tgt := 201) hx hb dX5_toldLeast_36 (by decide) (fun hc => ?_) (fun hc => ?_)
        · have hw := hw.1 hc
          refine zr_aload_n (r := some h0) hx hb dX5_toldLeast_201 rfl (lv_at hl 0 rfl) ?_
          obtain ⟨a_26, ci_27, fs_28, r_29, er, he, hc, hv, hw⟩ := zgR_e hw
          refine zw_get hk hH er he hv (fk_X5_117 hc) dX5_toldLeast_202 ?_
          refine lv_iload_n hx hb dX5_toldLeast_205 rfl (lv_at hl 1 rfl) ?_
          refine lv_iconst (v := (1 : Int32)) hx hb dX5_toldLeast_206 (by decide) ?_
          obtain ⟨a_30, n_31, f_32, er, he, hi, hA, hw⟩ := zaI_e hw
          obtain ⟨hp_33, eh⟩ : ∃ y : zHp, y = va_up hp_23 a_30 (some (.inl (g.2.1 3, n_31, .inl (va_up f_32 x1.toNatClampNeg (vp_nar .boolean (1 : Int32)))))) := ⟨_, rfl⟩
          have hw := hw hp_33 eh
          refine zw_zast hk hH hz hS er he hi hA eh dX5_toldLeast_207 (fun H locs hH hz hS => ?_)
          refine zr_aload_n (r := some h0) hx hb dX5_toldLeast_208 rfl (lv_at hl 0 rfl) ?_
          obtain ⟨a_34, ci_35, fs_36, r_37, er, he, hc, hv, hw⟩ := zgR_e hw
          refine zw_get hk hH er he hv (fk_X5_120 hc) dX5_toldLeast_209 ?_
          refine lv_iload_n hx hb dX5_toldLeast_212 rfl (lv_at hl 1 rfl) ?_
          refine lv_iload_n hx hb dX5_toldLeast_213 rfl (lv_at hl 2 rfl) ?_
          obtain ⟨a_38, n_39, f_40, er, he, hi, hA, hw⟩ := zaI_e hw
          obtain ⟨hp_41, eh⟩ : ∃ y : zHp, y = va_up hp_33 a_38 (some (.inl (g.2.1 0, n_39, .inl (va_up f_40 x1.toNatClampNeg x_20)))) := ⟨_, rfl⟩
          have hw := hw hp_41 eh
          refine zw_iast hk hH hz hS er he hi hA eh dX5_toldLeast_214 (fun H locs hH hz hS => ?_)
          refine lv_iload_n hx hb dX5_toldLeast_215 rfl (lv_at hl 2 rfl) ?_
          exact zr_iret hk hr hH hz hS hw (Nat.le_of_ble_eq_true rfl) (Nat.le_of_ble_eq_true rfl) dX5_toldLeast_216
        · have hw := hw.2 hc
          refine lv_iload_n hx hb dX5_toldLeast_39 rfl (lv_at hl 3 rfl) ?_
          refine lv_iload hx hb dX5_toldLeast_40 (lv_at hl 4 rfl) ?_
          refine lv_ishr hx hb dX5_toldLeast_42 ?_
          refine lv_iconst (v := (1 : Int32)) hx hb dX5_toldLeast_43 (by decide) ?_
          refine lv_iand hx hb dX5_toldLeast_44 ?_
          obtain ⟨P_195, hP_195, hw⟩ := hw
          have hJ_195 : ∀ (x_42 : Int32) (x_43 : Int32) (x_44 : Int32) (hp_45 : zHp) (nx_46 : Nat) (H : Heap) (locs : List Loc) (ls : Array Slot), P_195 x_42 x_43 x_44 hp_45 nx_46 → lv_has ls 7 [(0, va_rf (some h0)), (1, .int x1), (2, .int x_42), (3, .int x_43), (4, .int x_44)] → zHd g hp_45 H → H.size = nx_46 → va_S (zAd g) s.heap H locs → W p l e (zrm (d + 1) 0 0) s m ([.ref h0, .int x1] : List Value).toArray below meth c H locs 0 0 (MQ below (zQi g Post) ([.ref h0, .int x1] : List Value).toArray s 0 0 (zAd g)) (F0 m 195 ls []) := by
            intro x_42 x_43 x_44 hp_45 nx_46 H locs ls hw hl hH hz hS
            have hw := hP_195 x_42 x_43 x_44 hp_45 nx_46 hw
            obtain ⟨x_47, ex_47⟩ : ∃ y : Int32, y = x_44 + (1 : Int32) := ⟨_, rfl⟩
            have hw := hw x_47 ex_47
            refine lv_iinc (v := x_47) (lv' := [(4, .int x_47), (0, va_rf (some h0)), (1, .int x1), (2, .int x_42), (3, .int x_43)]) hx hb dX5_toldLeast_195 hl (k := 4) rfl (by rw [ex_47]; rfl) (by decide) (by first | rfl | simp [List.filter_cons, z_cat, z_catI, z_catJ, z_catF, z_catD]) (fun ls hl => ?_)
            refine lv_goto (tgt := 32) hx hb dX5_toldLeast_198 (by decide) ?_
            obtain ⟨k_48, hlt, hw⟩ := hw
            exact ih_32 k_48 hlt x_42 x_43 x_47 hp_45 nx_46 _ _ _ hw (lv_sub hl [1, 2, 3, 4, 0] rfl) hH hz hS
          refine lv_if_eq (tgt := 195) hx hb dX5_toldLeast_45 (by decide) (fun hc => ?_) (fun hc => ?_)
          · have hw := hw.1 hc
            exact hJ_195 x_20 x_21 x_22 hp_23 nx_24 _ _ _ hw hl hH hz hS
          · have hw := hw.2 hc
            refine zr_aload_n (r := some h0) hx hb dX5_toldLeast_48 rfl (lv_at hl 0 rfl) ?_
            refine lv_iload hx hb dX5_toldLeast_49 (lv_at hl 4 rfl) ?_
            obtain ⟨a_156, ci_157, fs_158, er, he, hc, hw⟩ := zo_e hw
            obtain rfl := List.mem_singleton.mp hc
            refine zr_calli (zw_runV (As := [.int x_22]) hk hH hz hS hl.1 er hw (cwV 1 hts (lw_V q2919 q2921 qs69 q162 q2922) rfl rfl rfl (by decide +kernel) (z_room (Nat.le_of_ble_eq_true rfl))) he rfl rfl rfl (Nat.le_of_ble_eq_true rfl) dX5_toldLeast_51 ⟨Nat.le_of_ble_eq_true rfl, Nat.le_of_ble_eq_true rfl⟩) hS (fun x_51 hp_49 nx_50 hw H locs hH hz hS => ?_)
            refine lv_if_eq (tgt := 60) hx hb dX5_toldLeast_54 (by decide) (fun hc => ?_) (fun hc => ?_)
            · have hw := hw.1 hc
              refine lv_iconst (v := (1 : Int32)) hx hb dX5_toldLeast_60 (by decide) ?_
              refine lv_istore (lv' := [(5, .int (1 : Int32)), (0, va_rf (some h0)), (1, .int x1), (2, .int x_20), (3, .int x_21), (4, .int x_22)]) hx hb dX5_toldLeast_61 hl (by decide) (by first | rfl | simp [List.filter_cons, z_cat, z_catI, z_catJ, z_catF, z_catD]) (fun ls hl => ?_)
              refine lv_iconst (v := (0 : Int32)) hx hb dX5_toldLeast_63 (by decide) ?_
              refine lv_istore (lv' := [(6, .int (0 : Int32)), (5, .int (1 : Int32)), (0, va_rf (some h0)), (1, .int x1), (2, .int x_20), (3, .int x_21), (4, .int x_22)]) hx hb dX5_toldLeast_64 hl (by decide) (by first | rfl | simp [List.filter_cons, z_cat, z_catI, z_catJ, z_catF, z_catD]) (fun ls hl => ?_)
              obtain ⟨I_66, ⟨n_155, hI⟩, hB_66⟩ := hw
              have hL_66 : ∀ (n_59 : Nat) (x_52 : Int32) (x_53 : Int32) (x_54 : Int32) (x_55 : Int32) (x_56 : Int32) (hp_57 : zHp) (nx_58 : Nat) (H : Heap) (locs : List Loc) (ls : Array Slot), I_66 n_59 x_52 x_53 x_54 x_55 x_56 hp_57 nx_58 → lv_has ls 7 [(0, va_rf (some h0)), (1, .int x1), (2, .int x_52), (3, .int x_53), (4, .int x_54), (5, .int x_55), (6, .int x_56)] → zHd g hp_57 H → H.size = nx_58 → va_S (zAd g) s.heap H locs → W p l e (zrm (d + 1) 0 0) s m ([.ref h0, .int x1] : List Value).toArray below meth c H locs 0 0 (MQ below (zQi g Post) ([.ref h0, .int x1] : List Value).toArray s 0 0 (zAd g)) (F0 m 66 ls []) := by
                intro n_59
                induction n_59 using Nat.strongRecOn with
                | _ n_59 ih_66 =>
                  intro x_52 x_53 x_54 x_55 x_56 hp_57 nx_58 H locs ls hw hl hH hz hS
                  have hw := hB_66 n_59 x_52 x_53 x_54 x_55 x_56 hp_57 nx_58 hw
                  refine lv_iload hx hb dX5_toldLeast_66 (lv_at hl 6 rfl) ?_
                  refine lv_bipush (v := (6 : Int32)) hx hb dX5_toldLeast_68 (by decide) ?_
                  refine lv_icmp_ge (tgt := 120) hx hb dX5_toldLeast_70 (by decide) (fun hc => ?_) (fun hc => ?_)
                  · have hw := hw.1 hc
                    refine zr_aload_n (r := some h0) hx hb dX5_toldLeast_120 rfl (lv_at hl 0 rfl) ?_
                    refine lv_iload hx hb dX5_toldLeast_121 (lv_at hl 4 rfl) ?_
                    obtain ⟨a_116, ci_117, fs_118, er, he, hc, hw⟩ := zo_e hw
                    obtain rfl := List.mem_singleton.mp hc
                    refine zr_calli (zw_runV (As := [.int x_54]) hk hH hz hS hl.1 er hw (cwV 1 hts (lw_V q2949 q2951 qs71 q162 q2952) rfl rfl rfl (by decide +kernel) (z_room (Nat.le_of_ble_eq_true rfl))) he rfl rfl rfl (Nat.le_of_ble_eq_true rfl) dX5_toldLeast_123 ⟨Nat.le_of_ble_eq_true rfl, Nat.le_of_ble_eq_true rfl⟩) hS (fun x_62 hp_60 nx_61 hw H locs hH hz hS => ?_)
                    refine lv_istore (lv' := [(6, .int x_62), (0, va_rf (some h0)), (1, .int x1), (2, .int x_52), (3, .int x_53), (4, .int x_54), (5, .int x_55)]) hx hb dX5_toldLeast_126 hl (by decide) (by first | rfl | simp [List.filter_cons, z_cat, z_catI, z_catJ, z_catF, z_catD]) (fun ls hl => ?_)
                    refine lv_iload hx hb dX5_toldLeast_128 (lv_at hl 0 rfl) ?_
                    refine zr_aload_n (r := some h0) hx hb dX5_toldLeast_130 rfl (lv_at hl 1 rfl) ?_
                    obtain ⟨a_63, ci_64, fs_65, r_66, er, he, hc, hv, hw⟩ := zgR_e hw
                    refine zw_get hk hH er he hv (fk_X5_40 hc) dX5_toldLeast_131 ?_
                    refine lv_iload_n hx hb dX5_toldLeast_134 rfl (lv_at hl 2 rfl) ?_
                    obtain ⟨a_67, n_68, f_69, er, he, hi, hw⟩ := zaI_e hw
                    have hw := hw _ rfl
                    refine zw_iald hk hH er he hi dX5_toldLeast_135 ?_
                    generalize f_69 x1.toNatClampNeg = x_70 at hw ⊢
                    refine lv_ishr hx hb dX5_toldLeast_136 ?_
                    refine lv_iconst (v := (1 : Int32)) hx hb dX5_toldLeast_137 (by decide) ?_
                    refine lv_iand hx hb dX5_toldLeast_138 ?_
                    refine lv_iconst (v := (1 : Int32)) hx hb dX5_toldLeast_139 (by decide) ?_
                    obtain ⟨P_154, hP_154, hw⟩ := hw
                    have hJ_154 : ∀ (x_71 : Int32) (x_72 : Int32) (x_73 : Int32) (x_74 : Int32) (x_75 : Int32) (hp_76 : zHp) (nx_77 : Nat) (H : Heap) (locs : List Loc) (ls : Array Slot), P_154 x_71 x_72 x_73 x_74 x_75 hp_76 nx_77 → lv_has ls 7 [(0, va_rf (some h0)), (1, .int x1), (2, .int x_71), (3, .int x_72), (4, .int x_73), (5, .int x_74), (6, .int x_75)] → zHd g hp_76 H → H.size = nx_77 → va_S (zAd g) s.heap H locs → W p l e (zrm (d + 1) 0 0) s m ([.ref h0, .int x1] : List Value).toArray below meth c H locs 0 0 (MQ below (zQi g Post) ([.ref h0, .int x1] : List Value).toArray s 0 0 (zAd g)) (F0 m 154 ls []) := by
                      intro x_71 x_72 x_73 x_74 x_75 hp_76 nx_77 H locs ls hw hl hH hz hS
                      have hw := hP_154 x_71 x_72 x_73 x_74 x_75 hp_76 nx_77 hw
                      refine zr_aload_n (r := some h0) hx hb dX5_toldLeast_154 rfl (lv_at hl 0 rfl) ?_
                      obtain ⟨a_78, ci_79, fs_80, r_81, er, he, hc, hv, hw⟩ := zgR_e hw
                      refine zw_get hk hH er he hv (fk_X5_43 hc) dX5_toldLeast_155 ?_
                      refine lv_iload_n hx hb dX5_toldLeast_158 rfl (lv_at hl 1 rfl) ?_
                      obtain ⟨a_82, n_83, f_84, er, he, hi, hw⟩ := zaI_e hw
                      have hw := hw _ rfl
                      refine zw_iald hk hH er he hi dX5_toldLeast_159 ?_
                      generalize f_84 x1.toNatClampNeg = x_85 at hw ⊢
                      refine lv_iconst (v := (-1 : Int32)) hx hb dX5_toldLeast_160 (by decide) ?_
                      obtain ⟨P_190, hP_190, hw⟩ := hw
                      have hJ_190 : ∀ (x_86 : Int32) (x_87 : Int32) (x_88 : Int32) (x_89 : Int32) (x_90 : Int32) (hp_91 : zHp) (nx_92 : Nat) (H : Heap) (locs : List Loc) (ls : Array Slot), P_190 x_86 x_87 x_88 x_89 x_90 hp_91 nx_92 → lv_has ls 7 [(0, va_rf (some h0)), (1, .int x1), (2, .int x_86), (3, .int x_87), (4, .int x_88), (5, .int x_89), (6, .int x_90)] → zHd g hp_91 H → H.size = nx_92 → va_S (zAd g) s.heap H locs → W p l e (zrm (d + 1) 0 0) s m ([.ref h0, .int x1] : List Value).toArray below meth c H locs 0 0 (MQ below (zQi g Post) ([.ref h0, .int x1] : List Value).toArray s 0 0 (zAd g)) (F0 m 190 ls []) := by
                        intro x_86 x_87 x_88 x_89 x_90 hp_91 nx_92 H locs ls hw hl hH hz hS
                        have hw := hP_190 x_86 x_87 x_88 x_89 x_90 hp_91 nx_92 hw
                        refine lv_iload_n hx hb dX5_toldLeast_190 rfl (lv_at hl 2 rfl) ?_
                        refine lv_iload hx hb dX5_toldLeast_191 (lv_at hl 5 rfl) ?_
                        refine lv_iadd hx hb dX5_toldLeast_193 ?_
                        refine lv_topi (fun x_93 ex_93 => ?_)
                        have hw := hw x_93 ex_93
                        refine lv_istore_n (i := 2) (lv' := [(2, .int x_93), (0, va_rf (some h0)), (1, .int x1), (3, .int x_87), (4, .int x_88), (5, .int x_89), (6, .int x_90)]) hx hb dX5_toldLeast_194 rfl hl (by decide) (by first | rfl | simp [List.filter_cons, z_cat, z_catI, z_catJ, z_catF, z_catD]) (fun ls hl => ?_)
                        exact hJ_195 x_93 x_87 x_88 hp_91 nx_92 _ _ _ hw (lv_sub hl [1, 2, 0, 3, 4] rfl) hH hz hS
                      refine lv_icmp_eq (tgt := 190) hx hb dX5_toldLeast_161 (by decide) (fun hc => ?_) (fun hc => ?_)
                      · have hw := hw.1 hc
                        exact hJ_190 x_71 x_72 x_73 x_74 x_75 hp_76 nx_77 _ _ _ hw hl hH hz hS
                      · have hw := hw.2 hc
                        refine lv_iload hx hb dX5_toldLeast_164 (lv_at hl 6 rfl) ?_
                        refine zr_aload_n (r := some h0) hx hb dX5_toldLeast_166 rfl (lv_at hl 0 rfl) ?_
                        obtain ⟨a_94, ci_95, fs_96, r_97, er, he, hc, hv, hw⟩ := zgR_e hw
                        refine zw_get hk hH er he hv (fk_X5_43 hc) dX5_toldLeast_167 ?_
                        refine lv_iload_n hx hb dX5_toldLeast_170 rfl (lv_at hl 1 rfl) ?_
                        obtain ⟨a_98, n_99, f_100, er, he, hi, hw⟩ := zaI_e hw
                        have hw := hw _ rfl
                        refine zw_iald hk hH er he hi dX5_toldLeast_171 ?_
                        generalize f_100 x1.toNatClampNeg = x_101 at hw ⊢
                        refine lv_ishr hx hb dX5_toldLeast_172 ?_
                        refine lv_iconst (v := (1 : Int32)) hx hb dX5_toldLeast_173 (by decide) ?_
                        refine lv_iand hx hb dX5_toldLeast_174 ?_
                        refine lv_iconst (v := (1 : Int32)) hx hb dX5_toldLeast_175 (by decide) ?_
                        refine lv_icmp_ne (tgt := 190) hx hb dX5_toldLeast_176 (by decide) (fun hc => ?_) (fun hc => ?_)
                        · have hw := hw.2 hc
                          exact hJ_190 x_71 x_72 x_73 x_74 x_75 hp_76 nx_77 _ _ _ hw hl hH hz hS
                        · have hw := hw.1 hc
                          refine lv_iload hx hb dX5_toldLeast_179 (lv_at hl 5 rfl) ?_
                          refine zr_aload_n (r := some h0) hx hb dX5_toldLeast_181 rfl (lv_at hl 0 rfl) ?_
                          refine lv_iload_n hx hb dX5_toldLeast_182 rfl (lv_at hl 1 rfl) ?_
                          refine lv_iconst (v := (1 : Int32)) hx hb dX5_toldLeast_183 (by decide) ?_
                          obtain ⟨a_106, ci_107, fs_108, er, he, hc, hw⟩ := zo_e hw
                          obtain rfl := List.mem_singleton.mp hc
                          refine zr_calli (zw_runV (As := [.int x1, .int (1 : Int32)]) hk hH hz hS hl.1 er hw (cwV 2 hts (lw_V q3237 q3239 qs119 q162 q3240) rfl rfl rfl (by decide +kernel) (z_room (Nat.le_of_ble_eq_true rfl))) he rfl rfl rfl (Nat.le_of_ble_eq_true rfl) dX5_toldLeast_184 ⟨Nat.le_of_ble_eq_true rfl, Nat.le_of_ble_eq_true rfl⟩) hS (fun x_104 hp_102 nx_103 hw H locs hH hz hS => ?_)
                          refine lv_imul hx hb dX5_toldLeast_187 ?_
                          refine lv_topi (fun x_105 ex_105 => ?_)
                          have hw := hw x_105 ex_105
                          refine lv_istore (lv' := [(5, .int x_105), (0, va_rf (some h0)), (1, .int x1), (2, .int x_71), (3, .int x_72), (4, .int x_73), (6, .int x_75)]) hx hb dX5_toldLeast_188 hl (by decide) (by first | rfl | simp [List.filter_cons, z_cat, z_catI, z_catJ, z_catF, z_catD]) (fun ls hl => ?_)
                          exact hJ_190 x_71 x_72 x_73 x_105 x_75 hp_102 nx_103 _ _ _ hw (lv_sub hl [1, 2, 3, 4, 5, 0, 6] rfl) hH hz hS
                    refine lv_icmp_ne (tgt := 154) hx hb dX5_toldLeast_140 (by decide) (fun hc => ?_) (fun hc => ?_)
                    · have hw := hw.2 hc
                      exact hJ_154 x_52 x_53 x_54 x_55 x_62 hp_60 nx_61 _ _ _ hw (lv_sub hl [1, 2, 3, 4, 5, 6, 0] rfl) hH hz hS
                    · have hw := hw.1 hc
                      refine lv_iload hx hb dX5_toldLeast_143 (lv_at hl 6 rfl) ?_
                      refine zr_aload_n (r := some h0) hx hb dX5_toldLeast_145 rfl (lv_at hl 1 rfl) ?_
                      refine lv_iload_n hx hb dX5_toldLeast_146 rfl (lv_at hl 2 rfl) ?_
                      refine lv_iconst (v := (0 : Int32)) hx hb dX5_toldLeast_147 (by decide) ?_
                      obtain ⟨a_113, ci_114, fs_115, er, he, hc, hw⟩ := zo_e hw
                      obtain rfl := List.mem_singleton.mp hc
                      refine zr_calli (zw_runV (As := [.int x1, .int (0 : Int32)]) hk hH hz hS hl.1 er hw (cwV 2 hts (lw_V q3237 q3239 qs119 q162 q3240) rfl rfl rfl (by decide +kernel) (z_room (Nat.le_of_ble_eq_true rfl))) he rfl rfl rfl (Nat.le_of_ble_eq_true rfl) dX5_toldLeast_148 ⟨Nat.le_of_ble_eq_true rfl, Nat.le_of_ble_eq_true rfl⟩) hS (fun x_111 hp_109 nx_110 hw H locs hH hz hS => ?_)
                      refine lv_imul hx hb dX5_toldLeast_151 ?_
                      refine lv_topi (fun x_112 ex_112 => ?_)
                      have hw := hw x_112 ex_112
                      refine lv_istore (lv' := [(5, .int x_112), (6, .int x_62), (0, va_rf (some h0)), (1, .int x1), (2, .int x_52), (3, .int x_53), (4, .int x_54)]) hx hb dX5_toldLeast_152 hl (by decide) (by first | rfl | simp [List.filter_cons, z_cat, z_catI, z_catJ, z_catF, z_catD]) (fun ls hl => ?_)
                      exact hJ_154 x_52 x_53 x_54 x_112 x_62 hp_109 nx_110 _ _ _ hw (lv_sub hl [2, 3, 4, 5, 6, 0, 1] rfl) hH hz hS
                  · have hw := hw.2 hc
                    refine zr_aload_n (r := some h0) hx hb dX5_toldLeast_73 rfl (lv_at hl 0 rfl) ?_
                    obtain ⟨a_119, ci_120, fs_121, r_122, er, he, hc, hv, hw⟩ := zgR_e hw
                    refine zw_get hk hH er he hv (fk_X5_34 hc) dX5_toldLeast_74 ?_
                    refine lv_iload hx hb dX5_toldLeast_77 (lv_at hl 6 rfl) ?_
                    obtain ⟨a_123, n_124, f_125, er, he, hi, hw⟩ := zaI_e hw
                    have hw := hw _ rfl
                    refine zw_zald hk hH er he hi dX5_toldLeast_79 ?_
                    generalize f_125 x_56.toNatClampNeg = x_126 at hw ⊢
                    obtain ⟨P_114, hP_114, hw⟩ := hw
                    have hJ_114 : ∀ (x_127 : Int32) (x_128 : Int32) (x_129 : Int32) (x_130 : Int32) (x_131 : Int32) (hp_132 : zHp) (nx_133 : Nat) (H : Heap) (locs : List Loc) (ls : Array Slot), P_114 x_127 x_128 x_129 x_130 x_131 hp_132 nx_133 → lv_has ls 7 [(0, va_rf (some h0)), (1, .int x1), (2, .int x_127), (3, .int x_128), (4, .int x_129), (5, .int x_130), (6, .int x_131)] → zHd g hp_132 H → H.size = nx_133 → va_S (zAd g) s.heap H locs → W p l e (zrm (d + 1) 0 0) s m ([.ref h0, .int x1] : List Value).toArray below meth c H locs 0 0 (MQ below (zQi g Post) ([.ref h0, .int x1] : List Value).toArray s 0 0 (zAd g)) (F0 m 114 ls []) := by
                      intro x_127 x_128 x_129 x_130 x_131 hp_132 nx_133 H locs ls hw hl hH hz hS
                      have hw := hP_114 x_127 x_128 x_129 x_130 x_131 hp_132 nx_133 hw
                      obtain ⟨x_134, ex_134⟩ : ∃ y : Int32, y = x_131 + (1 : Int32) := ⟨_, rfl⟩
                      have hw := hw x_134 ex_134
                      refine lv_iinc (v := x_134) (lv' := [(6, .int x_134), (0, va_rf (some h0)), (1, .int x1), (2, .int x_127), (3, .int x_128), (4, .int x_129), (5, .int x_130)]) hx hb dX5_toldLeast_114 hl (k := 6) rfl (by rw [ex_134]; rfl) (by decide) (by first | rfl | simp [List.filter_cons, z_cat, z_catI, z_catJ, z_catF, z_catD]) (fun ls hl => ?_)
                      refine lv_goto (tgt := 66) hx hb dX5_toldLeast_117 (by decide) ?_
                      obtain ⟨k_135, hlt, hw⟩ := hw
                      exact ih_66 k_135 hlt x_127 x_128 x_129 x_130 x_134 hp_132 nx_133 _ _ _ hw (lv_sub hl [1, 2, 3, 4, 5, 6, 0] rfl) hH hz hS
                    refine lv_if_eq (tgt := 114) hx hb dX5_toldLeast_80 (by decide) (fun hc => ?_) (fun hc => ?_)
                    · have hw := hw.1 hc
                      exact hJ_114 x_52 x_53 x_54 x_55 x_56 hp_57 nx_58 _ _ _ hw hl hH hz hS
                    · have hw := hw.2 hc
                      refine zr_aload_n (r := some h0) hx hb dX5_toldLeast_83 rfl (lv_at hl 0 rfl) ?_
                      refine lv_iload hx hb dX5_toldLeast_84 (lv_at hl 4 rfl) ?_
                      refine lv_iload hx hb dX5_toldLeast_86 (lv_at hl 6 rfl) ?_
                      obtain ⟨a_152, ci_153, fs_154, er, he, hc, hw⟩ := zo_e hw
                      obtain rfl := List.mem_singleton.mp hc
                      refine zr_calli (zw_runV (As := [.int x_54, .int x_56]) hk hH hz hS hl.1 er hw (cwV 2 hts (lw_V q2961 q2963 qs74 q162 q2964) rfl rfl rfl (by decide +kernel) (z_room (Nat.le_of_ble_eq_true rfl))) he rfl rfl rfl (Nat.le_of_ble_eq_true rfl) dX5_toldLeast_88 ⟨Nat.le_of_ble_eq_true rfl, Nat.le_of_ble_eq_true rfl⟩) hS (fun x_138 hp_136 nx_137 hw H locs hH hz hS => ?_)
                      refine lv_if_le (tgt := 114) hx hb dX5_toldLeast_91 (by decide) (fun hc => ?_) (fun hc => ?_)
                      · have hw := hw.1 hc
                        exact hJ_114 x_52 x_53 x_54 x_55 x_56 hp_136 nx_137 _ _ _ hw hl hH hz hS
                      · have hw := hw.2 hc
                        refine lv_iload hx hb dX5_toldLeast_94 (lv_at hl 5 rfl) ?_
                        refine zr_aload_n (r := some h0) hx hb dX5_toldLeast_96 rfl (lv_at hl 0 rfl) ?_
                        refine lv_iload hx hb dX5_toldLeast_97 (lv_at hl 4 rfl) ?_
                        refine lv_iload hx hb dX5_toldLeast_99 (lv_at hl 6 rfl) ?_
                        obtain ⟨a_149, ci_150, fs_151, er, he, hc, hw⟩ := zo_e hw
                        obtain rfl := List.mem_singleton.mp hc
                        refine zr_calli (zw_runV (As := [.int x_54, .int x_56]) hk hH hz hS hl.1 er hw (cwV 2 hts (lw_V q2961 q2963 qs74 q162 q2964) rfl rfl rfl (by decide +kernel) (z_room (Nat.le_of_ble_eq_true rfl))) he rfl rfl rfl (Nat.le_of_ble_eq_true rfl) dX5_toldLeast_101 ⟨Nat.le_of_ble_eq_true rfl, Nat.le_of_ble_eq_true rfl⟩) hS (fun x_141 hp_139 nx_140 hw H locs hH hz hS => ?_)
                        refine zr_aload_n (r := some h0) hx hb dX5_toldLeast_104 rfl (lv_at hl 0 rfl) ?_
                        refine lv_iload hx hb dX5_toldLeast_105 (lv_at hl 6 rfl) ?_
                        obtain ⟨a_146, ci_147, fs_148, er, he, hc, hw⟩ := zo_e hw
                        obtain rfl := List.mem_singleton.mp hc
                        refine zr_calli (zw_runV (As := [.int x_56]) hk hH hz hS hl.1 er hw (cwV 1 hts (lw_V q3241 q3243 qs120 q162 q3244) rfl rfl rfl (by decide +kernel) (z_room (Nat.le_of_ble_eq_true rfl))) he rfl rfl rfl (Nat.le_of_ble_eq_true rfl) dX5_toldLeast_107 ⟨Nat.le_of_ble_eq_true rfl, Nat.le_of_ble_eq_true rfl⟩) hS (fun x_144 hp_142 nx_143 hw H locs hH hz hS => ?_)
                        refine lv_imul hx hb dX5_toldLeast_110 ?_
                        refine lv_iadd hx hb dX5_toldLeast_111 ?_
                        refine lv_topi (fun x_145 ex_145 => ?_)
                        have hw := hw x_145 ex_145
                        refine lv_istore (lv' := [(5, .int x_145), (0, va_rf (some h0)), (1, .int x1), (2, .int x_52), (3, .int x_53), (4, .int x_54), (6, .int x_56)]) hx hb dX5_toldLeast_112 hl (by decide) (by first | rfl | simp [List.filter_cons, z_cat, z_catI, z_catJ, z_catF, z_catD]) (fun ls hl => ?_)
                        exact hJ_114 x_52 x_53 x_54 x_145 x_56 hp_142 nx_143 _ _ _ hw (lv_sub hl [1, 2, 3, 4, 5, 0, 6] rfl) hH hz hS
              exact hL_66 n_155 x_20 x_21 x_22 (1 : Int32) (0 : Int32) hp_49 nx_50 _ _ _ hI (lv_sub hl [2, 3, 4, 5, 6, 1, 0] rfl) hH hz hS
            · have hw := hw.2 hc
              refine lv_goto (tgt := 195) hx hb dX5_toldLeast_57 (by decide) ?_
              exact hJ_195 x_20 x_21 x_22 hp_49 nx_50 _ _ _ hw hl hH hz hS
    exact hL_32 n_159 (0 : Int32) x_19 (0 : Int32) hp_17 nx_18 _ _ _ hI (lv_sub hl [3, 4, 2, 1, 0] rfl) hH hz hS
  · have hw := hw.2 hc
    refine zr_aload_n (r := some h0) hx hb dX5_toldLeast_9 rfl (lv_at hl 0 rfl) ?_
    obtain ⟨a_163, ci_164, fs_165, r_166, er, he, hc, hv, hw⟩ := zgR_e hw
    refine zw_get hk hH er he hv (fk_X5_120 hc) dX5_toldLeast_10 ?_
    refine lv_iload_n hx hb dX5_toldLeast_13 rfl (lv_at hl 1 rfl) ?_
    obtain ⟨a_167, n_168, f_169, er, he, hi, hw⟩ := zaI_e hw
    have hw := hw _ rfl
    refine zw_iald hk hH er he hi dX5_toldLeast_14 ?_
    generalize f_169 x1.toNatClampNeg = x_170 at hw ⊢
    exact zr_iret hk hr hH hz hS hw (Nat.le_of_ble_eq_true rfl) (Nat.le_of_ble_eq_true rfl) dX5_toldLeast_15
theorem fp_X5_511 {ci : Nat} (h : ci ∈ [5]) : zFp "WhatIfSheetModel" 511 ci 51 .int := by
  simp only [List.mem_cons, List.not_mem_nil, or_false] at h
  rcases h with rfl
  · exact ⟨RX5, TX5, 76, rfl, by decide, q2725, rfl, by decide +kernel⟩
theorem fp_X5_514 {ci : Nat} (h : ci ∈ [5]) : zFp "WhatIfSheetModel" 514 ci 52 .boolean := by
  simp only [List.mem_cons, List.not_mem_nil, or_false] at h
  rcases h with rfl
  · exact ⟨RX5, TX5, 76, rfl, by decide, q2726, rfl, by decide +kernel⟩
theorem fk_X5_520 {ci : Nat} (h : ci ∈ [5]) : zFk "WhatIfSheetModel" 520 ci 54 := by
  simp only [List.mem_cons, List.not_mem_nil, or_false] at h
  rcases h with rfl
  · exact ⟨RX5, TX5, 76, rfl, by decide, q2728⟩
theorem fk_X5_517 {ci : Nat} (h : ci ∈ [5]) : zFk "WhatIfSheetModel" 517 ci 53 := by
  simp only [List.mem_cons, List.not_mem_nil, or_false] at h
  rcases h with rfl
  · exact ⟨RX5, TX5, 76, rfl, by decide, q2727⟩
theorem fk_X5_511 {ci : Nat} (h : ci ∈ [5]) : zFk "WhatIfSheetModel" 511 ci 51 := by
  simp only [List.mem_cons, List.not_mem_nil, or_false] at h
  rcases h with rfl
  · exact ⟨RX5, TX5, 76, rfl, by decide, q2725⟩
def wp_X5_seek (l : Launch) (g : zG) (d : Nat) (h0 : Nat) (x1 : Int32) (x2 : Int32) (x3 : Int32) (x4 : Int32) (x5 : Int32) (x6 : Int32) (hp : zHp) (nx : Nat) (Post : Int64 → zHp → Nat → Prop) : Prop :=
  (zMt l g yX5_isCell cX5_isCell 1 (some .boolean) d 0 0 [.int x1] hp nx (zQi g fun x_3 hp_1 nx_2 =>
  (∃ P_53 : zHp → Nat → Prop, (∀ (hp_4 : zHp) (nx_5 : Nat), P_53 hp_4 nx_5 →
  (Post (-2 : Int64) hp_4 nx_5)) ∧
  ((x_3 = 0 →
  P_53 hp_1 nx_2) ∧
  (¬ x_3 = 0 →
  (zMt l g yX5_isCell cX5_isCell 1 (some .boolean) d 0 0 [.int x2] hp_1 nx_2 (zQi g fun x_8 hp_6 nx_7 =>
  ((x_8 = 0 →
  P_53 hp_6 nx_7) ∧
  (¬ x_8 = 0 →
  (zMt l g yX5_isWanted cX5_isWanted 1 (some .boolean) d 0 0 [.int x3] hp_6 nx_7 (zQi g fun x_11 hp_9 nx_10 =>
  ((x_11 = 0 →
  P_53 hp_9 nx_10) ∧
  (¬ x_11 = 0 →
  (zMt l g yX5_isWanted cX5_isWanted 1 (some .boolean) d 0 0 [.int x4] hp_9 nx_10 (zQi g fun x_14 hp_12 nx_13 =>
  ((x_14 = 0 →
  P_53 hp_12 nx_13) ∧
  (¬ x_14 = 0 →
  ((x4 ≤ x3 →
  P_53 hp_12 nx_13) ∧
  (¬ x4 ≤ x3 →
  (zMt l g yX5_isWanted cX5_isWanted 1 (some .boolean) d 0 0 [.int x5] hp_12 nx_13 (zQi g fun x_17 hp_15 nx_16 =>
  ((x_17 = 0 →
  P_53 hp_15 nx_16) ∧
  (¬ x_17 = 0 →
  (zMt l g yX5_in cX5_in 3 (some .boolean) d 0 0 [.int x6, .int (0 : Int32), .int (2 : Int32)] hp_15 nx_16 (zQi g fun x_20 hp_18 nx_19 =>
  ((x_20 = 0 →
  P_53 hp_18 nx_19) ∧
  (¬ x_20 = 0 →
  (zo hp_18 (some h0) [5] fun a_57 ci_58 fs_59 => zMt l g yX5_isInput cX5_isInput 2 (some .boolean) d 0 0 (.ref a_57 :: [.int x1]) hp_18 nx_19 (zQi g fun x_23 hp_21 nx_22 =>
  ((x_23 = 0 →
  (Post (-3 : Int64) hp_21 nx_22)) ∧
  (¬ x_23 = 0 →
  (zpt g hp_21 (some h0) [5] 51 (.int (0 : Int32)) fun hp_27 =>
  (zpt g hp_27 (some h0) [5] 52 (.int (0 : Int32)) fun hp_31 =>
  (vf_n64 (FP.ddiv (FP.i2d x3) (4620693217682128896 : UInt64)) ∧ (vf_n64 (FP.ddiv (FP.i2d x4) (4620693217682128896 : UInt64)) ∧ (vf_n64 (FP.ddiv (FP.i2d x5) (4620693217682128896 : UInt64)) ∧ (zo hp_31 (some h0) [5] fun a_54 ci_55 fs_56 => zMt l g yX5_seeks cX5_seeks 25 (some .boolean) d 0 0 (.ref a_54 :: [.int x1, .int x2, .double (FP.ddiv (FP.i2d x3) (4620693217682128896 : UInt64)), .double (FP.ddiv (FP.i2d x4) (4620693217682128896 : UInt64)), .double (FP.ddiv (FP.i2d x5) (4620693217682128896 : UInt64))]) hp_31 nx_22 (zQi g fun x_34 hp_32 nx_33 =>
  ((x6 = (2 : Int32) →
  (zgI hp_32 (some h0) [5] 51 fun x_53 =>
  (Post x_53.toInt64 hp_32 nx_33))) ∧
  (¬ x6 = (2 : Int32) →
  ((x_34 = 0 →
  (Post (-1 : Int64) hp_32 nx_33)) ∧
  (¬ x_34 = 0 →
  (∃ P_144 : Int32 → UInt64 → zHp → Nat → Prop, (∀ (x_35 : Int32) (x_36 : UInt64) (hp_37 : zHp) (nx_38 : Nat), P_144 x_35 x_36 hp_37 nx_38 →
  (zMt l g yX5_bits cX5_bits 2 (some .long) d 0 0 [.double x_36] hp_37 nx_38 (zQl g fun x_41 hp_39 nx_40 =>
  (Post x_41 hp_39 nx_40)))) ∧
  ((x6 = 0 →
  (zgD hp_32 (some h0) [5] 53 fun x_49 =>
  P_144 x_34 x_49 hp_32 nx_33)) ∧
  (¬ x6 = 0 →
  (zgD hp_32 (some h0) [5] 54 fun x_45 =>
  P_144 x_34 x_45 hp_32 nx_33))))))))))))))))))))))))))))))))))))))))))))))
set_option maxHeartbeats 40000000 in
theorem met_X5_seek {l : Launch} {g : zG} {d : Nat} {h0 : Nat} {x1 : Int32} {x2 : Int32} {x3 : Int32} {x4 : Int32} {x5 : Int32} {x6 : Int32} {hp : zHp} {nx : Nat} {Post : Int64 → zHp → Nat → Prop} (hw : wp_X5_seek l g d h0 x1 x2 x3 x4 x5 x6 hp nx Post) : zMt l g yX5_seek cX5_seek 8 (some .long) (d + 1) 0 0 [.ref h0, .int x1, .int x2, .int x3, .int x4, .int x5, .int x6] hp nx (zQl g Post) := by
  refine z_start (by decide) (Nat.le_of_ble_eq_true rfl) ?_
  intro p e s m below meth c hk hr hin hH hz ls hl
  have hx := hk.1.1
  have hb := hk.1.2.1
  have hown := hk.1.2.2.2.1
  have hts := hk.1.2.2.2.2
  have hS : va_S (zAd g) s.heap s.heap [] := va_S.rf
  have hl : lv_has ls 8 [(0, va_rf (some h0)), (1, .int x1), (2, .int x2), (3, .int x3), (4, .int x4), (5, .int x5), (6, .int x6)] := hl
  unfold wp_X5_seek at hw
  refine lv_iload_n hx hb dX5_seek_0 rfl (lv_at hl 1 rfl) ?_
  refine zr_calli (zr_runS (As := [.int x1]) hk hH hz hS hl.1 hw (va_cwS 1 hts (lw_S q2908 q2909 q162 q2910) rfl rfl rfl (by decide +kernel) (z_room (Nat.le_of_ble_eq_true rfl))) rfl rfl (Nat.le_of_ble_eq_true rfl) dX5_seek_1 ⟨Nat.le_of_ble_eq_true rfl, Nat.le_of_ble_eq_true rfl⟩) hS (fun x_3 hp_1 nx_2 hw H locs hH hz hS => ?_)
  obtain ⟨P_53, hP_53, hw⟩ := hw
  have hJ_53 : ∀ (hp_4 : zHp) (nx_5 : Nat) (H : Heap) (locs : List Loc) (ls : Array Slot), P_53 hp_4 nx_5 → lv_has ls 8 [(0, va_rf (some h0)), (1, .int x1), (2, .int x2), (3, .int x3), (4, .int x4), (5, .int x5), (6, .int x6)] → zHd g hp_4 H → H.size = nx_5 → va_S (zAd g) s.heap H locs → W p l e (zrm (d + 1) 0 0) s m ([.ref h0, .int x1, .int x2, .int x3, .int x4, .int x5, .int x6] : List Value).toArray below meth c H locs 0 0 (MQ below (zQl g Post) ([.ref h0, .int x1, .int x2, .int x3, .int x4, .int x5, .int x6] : List Value).toArray s 0 0 (zAd g)) (F0 m 53 ls []) := by
    intro hp_4 nx_5 H locs ls hw hl hH hz hS
    have hw := hP_53 hp_4 nx_5 hw
    refine lv_ldc2 hx hb hown (hts _ q3037) dX5_seek_53 ?_
    exact zr_lret hk hr hH hz hS hw (Nat.le_of_ble_eq_true rfl) (Nat.le_of_ble_eq_true rfl) dX5_seek_56
  refine lv_if_eq (tgt := 53) hx hb dX5_seek_4 (by decide) (fun hc => ?_) (fun hc => ?_)
  · have hw := hw.1 hc
    exact hJ_53 hp_1 nx_2 _ _ _ hw hl hH hz hS
  · have hw := hw.2 hc
    refine lv_iload_n hx hb dX5_seek_7 rfl (lv_at hl 2 rfl) ?_
    refine zr_calli (zr_runS (As := [.int x2]) hk hH hz hS hl.1 hw (va_cwS 1 hts (lw_S q2908 q2909 q162 q2910) rfl rfl rfl (by decide +kernel) (z_room (Nat.le_of_ble_eq_true rfl))) rfl rfl (Nat.le_of_ble_eq_true rfl) dX5_seek_8 ⟨Nat.le_of_ble_eq_true rfl, Nat.le_of_ble_eq_true rfl⟩) hS (fun x_8 hp_6 nx_7 hw H locs hH hz hS => ?_)
    refine lv_if_eq (tgt := 53) hx hb dX5_seek_11 (by decide) (fun hc => ?_) (fun hc => ?_)
    · have hw := hw.1 hc
      exact hJ_53 hp_6 nx_7 _ _ _ hw hl hH hz hS
    · have hw := hw.2 hc
      refine lv_iload_n hx hb dX5_seek_14 rfl (lv_at hl 3 rfl) ?_
      refine zr_calli (zr_runS (As := [.int x3]) hk hH hz hS hl.1 hw (va_cwS 1 hts (lw_S q3249 q3250 q162 q3251) rfl rfl rfl (by decide +kernel) (z_room (Nat.le_of_ble_eq_true rfl))) rfl rfl (Nat.le_of_ble_eq_true rfl) dX5_seek_15 ⟨Nat.le_of_ble_eq_true rfl, Nat.le_of_ble_eq_true rfl⟩) hS (fun x_11 hp_9 nx_10 hw H locs hH hz hS => ?_)
      refine lv_if_eq (tgt := 53) hx hb dX5_seek_18 (by decide) (fun hc => ?_) (fun hc => ?_)
      · have hw := hw.1 hc
        exact hJ_53 hp_9 nx_10 _ _ _ hw hl hH hz hS
      · have hw := hw.2 hc
        refine lv_iload hx hb dX5_seek_21 (lv_at hl 4 rfl) ?_
        refine zr_calli (zr_runS (As := [.int x4]) hk hH hz hS hl.1 hw (va_cwS 1 hts (lw_S q3249 q3250 q162 q3251) rfl rfl rfl (by decide +kernel) (z_room (Nat.le_of_ble_eq_true rfl))) rfl rfl (Nat.le_of_ble_eq_true rfl) dX5_seek_23 ⟨Nat.le_of_ble_eq_true rfl, Nat.le_of_ble_eq_true rfl⟩) hS (fun x_14 hp_12 nx_13 hw H locs hH hz hS => ?_)
        refine lv_if_eq (tgt := 53) hx hb dX5_seek_26 (by decide) (fun hc => ?_) (fun hc => ?_)
        · have hw := hw.1 hc
          exact hJ_53 hp_12 nx_13 _ _ _ hw hl hH hz hS
        · have hw := hw.2 hc
          refine lv_iload_n hx hb dX5_seek_29 rfl (lv_at hl 3 rfl) ?_
          refine lv_iload hx hb dX5_seek_30 (lv_at hl 4 rfl) ?_
          refine lv_icmp_ge (tgt := 53) hx hb dX5_seek_32 (by decide) (fun hc => ?_) (fun hc => ?_)
          · have hw := hw.1 hc
            exact hJ_53 hp_12 nx_13 _ _ _ hw hl hH hz hS
          · have hw := hw.2 hc
            refine lv_iload hx hb dX5_seek_35 (lv_at hl 5 rfl) ?_
            refine zr_calli (zr_runS (As := [.int x5]) hk hH hz hS hl.1 hw (va_cwS 1 hts (lw_S q3249 q3250 q162 q3251) rfl rfl rfl (by decide +kernel) (z_room (Nat.le_of_ble_eq_true rfl))) rfl rfl (Nat.le_of_ble_eq_true rfl) dX5_seek_37 ⟨Nat.le_of_ble_eq_true rfl, Nat.le_of_ble_eq_true rfl⟩) hS (fun x_17 hp_15 nx_16 hw H locs hH hz hS => ?_)
            refine lv_if_eq (tgt := 53) hx hb dX5_seek_40 (by decide) (fun hc => ?_) (fun hc => ?_)
            · have hw := hw.1 hc
              exact hJ_53 hp_15 nx_16 _ _ _ hw hl hH hz hS
            · have hw := hw.2 hc
              refine lv_iload hx hb dX5_seek_43 (lv_at hl 6 rfl) ?_
              refine lv_iconst (v := (0 : Int32)) hx hb dX5_seek_45 (by decide) ?_
              refine lv_iconst (v := (2 : Int32)) hx hb dX5_seek_46 (by decide) ?_
              refine zr_calli (zr_runS (As := [.int x6, .int (0 : Int32), .int (2 : Int32)]) hk hH hz hS hl.1 hw (va_cwS 3 hts (lw_S q2911 q2912 q162 q2913) rfl rfl rfl (by decide +kernel) (z_room (Nat.le_of_ble_eq_true rfl))) rfl rfl (Nat.le_of_ble_eq_true rfl) dX5_seek_47 ⟨Nat.le_of_ble_eq_true rfl, Nat.le_of_ble_eq_true rfl⟩) hS (fun x_20 hp_18 nx_19 hw H locs hH hz hS => ?_)
              refine lv_if_ne (tgt := 57) hx hb dX5_seek_50 (by decide) (fun hc => ?_) (fun hc => ?_)
              · have hw := hw.2 hc
                refine zr_aload_n (r := some h0) hx hb dX5_seek_57 rfl (lv_at hl 0 rfl) ?_
                refine lv_iload_n hx hb dX5_seek_58 rfl (lv_at hl 1 rfl) ?_
                obtain ⟨a_57, ci_58, fs_59, er, he, hc, hw⟩ := zo_e hw
                obtain rfl := List.mem_singleton.mp hc
                refine zr_calli (zw_runV (As := [.int x1]) hk hH hz hS hl.1 er hw (cwV 1 hts (lw_V q2919 q2921 qs69 q162 q2922) rfl rfl rfl (by decide +kernel) (z_room (Nat.le_of_ble_eq_true rfl))) he rfl rfl rfl (Nat.le_of_ble_eq_true rfl) dX5_seek_59 ⟨Nat.le_of_ble_eq_true rfl, Nat.le_of_ble_eq_true rfl⟩) hS (fun x_23 hp_21 nx_22 hw H locs hH hz hS => ?_)
                refine lv_if_ne (tgt := 69) hx hb dX5_seek_62 (by decide) (fun hc => ?_) (fun hc => ?_)
                · have hw := hw.2 hc
                  refine zr_aload_n (r := some h0) hx hb dX5_seek_69 rfl (lv_at hl 0 rfl) ?_
                  refine lv_iconst (v := (0 : Int32)) hx hb dX5_seek_70 (by decide) ?_
                  obtain ⟨a_24, ci_25, fs_26, hp_27, er, he, hc, hA, hkl, eh, hw⟩ := zpt_e hw
                  refine zw_put hk hH hz hS er he hA hkl eh (fp_X5_511 hc) rfl rfl dX5_seek_71 (fun H locs hH hz hS => ?_)
                  refine zr_aload_n (r := some h0) hx hb dX5_seek_74 rfl (lv_at hl 0 rfl) ?_
                  refine lv_iconst (v := (0 : Int32)) hx hb dX5_seek_75 (by decide) ?_
                  obtain ⟨a_28, ci_29, fs_30, hp_31, er, he, hc, hA, hkl, eh, hw⟩ := zpt_e hw
                  refine zw_put hk hH hz hS er he hA hkl eh (fp_X5_514 hc) (z_nb (Or.inl rfl)) (z_fb (Or.inl rfl)) dX5_seek_76 (fun H locs hH hz hS => ?_)
                  refine zr_aload_n (r := some h0) hx hb dX5_seek_79 rfl (lv_at hl 0 rfl) ?_
                  refine lv_iload_n hx hb dX5_seek_80 rfl (lv_at hl 1 rfl) ?_
                  refine lv_iload_n hx hb dX5_seek_81 rfl (lv_at hl 2 rfl) ?_
                  refine lv_iload_n hx hb dX5_seek_82 rfl (lv_at hl 3 rfl) ?_
                  refine lv_i2d hx hb dX5_seek_83 ?_
                  refine lv_ldc2d hx hb hown (hts _ q2923) dX5_seek_84 ?_
                  obtain ⟨hne, hw⟩ := hw
                  refine lv_ddiv hx hb dX5_seek_87 hne ?_
                  refine lv_iload hx hb dX5_seek_88 (lv_at hl 4 rfl) ?_
                  refine lv_i2d hx hb dX5_seek_90 ?_
                  refine lv_ldc2d hx hb hown (hts _ q2923) dX5_seek_91 ?_
                  obtain ⟨hne, hw⟩ := hw
                  refine lv_ddiv hx hb dX5_seek_94 hne ?_
                  refine lv_iload hx hb dX5_seek_95 (lv_at hl 5 rfl) ?_
                  refine lv_i2d hx hb dX5_seek_97 ?_
                  refine lv_ldc2d hx hb hown (hts _ q2923) dX5_seek_98 ?_
                  obtain ⟨hne, hw⟩ := hw
                  refine lv_ddiv hx hb dX5_seek_101 hne ?_
                  obtain ⟨a_54, ci_55, fs_56, er, he, hc, hw⟩ := zo_e hw
                  obtain rfl := List.mem_singleton.mp hc
                  refine zr_calli (zw_runV (As := [.int x1, .int x2, .double (FP.ddiv (FP.i2d x3) (4620693217682128896 : UInt64)), .double (FP.ddiv (FP.i2d x4) (4620693217682128896 : UInt64)), .double (FP.ddiv (FP.i2d x5) (4620693217682128896 : UInt64))]) hk hH hz hS hl.1 er hw (cwV 5 hts (lw_V q3252 q3254 qs121 q162 q3255) rfl rfl rfl (by decide +kernel) (z_room (Nat.le_of_ble_eq_true rfl))) he rfl rfl rfl (Nat.le_of_ble_eq_true rfl) dX5_seek_102 ⟨Nat.le_of_ble_eq_true rfl, Nat.le_of_ble_eq_true rfl⟩) hS (fun x_34 hp_32 nx_33 hw H locs hH hz hS => ?_)
                  refine lv_istore (lv' := [(7, .int x_34), (0, va_rf (some h0)), (1, .int x1), (2, .int x2), (3, .int x3), (4, .int x4), (5, .int x5), (6, .int x6)]) hx hb dX5_seek_105 hl (by decide) (by first | rfl | simp [List.filter_cons, z_cat, z_catI, z_catJ, z_catF, z_catD]) (fun ls hl => ?_)
                  refine lv_iload hx hb dX5_seek_107 (lv_at hl 7 rfl) ?_
                  refine lv_iconst (v := (2 : Int32)) hx hb dX5_seek_109 (by decide) ?_
                  refine lv_icmp_ne (tgt := 119) hx hb dX5_seek_110 (by decide) (fun hc => ?_) (fun hc => ?_)
                  · have hw := hw.2 hc
                    refine lv_iload hx hb dX5_seek_119 (lv_at hl 0 rfl) ?_
                    refine lv_if_ne (tgt := 128) hx hb dX5_seek_121 (by decide) (fun hc => ?_) (fun hc => ?_)
                    · have hw := hw.2 hc
                      refine lv_iload hx hb dX5_seek_128 (lv_at hl 7 rfl) ?_
                      obtain ⟨P_144, hP_144, hw⟩ := hw
                      have hJ_144 : ∀ (x_35 : Int32) (x_36 : UInt64) (hp_37 : zHp) (nx_38 : Nat) (H : Heap) (locs : List Loc) (ls : Array Slot), P_144 x_35 x_36 hp_37 nx_38 → lv_has ls 8 [(0, va_rf (some h0)), (1, .int x1), (2, .int x2), (3, .int x3), (4, .int x4), (5, .int x5), (6, .int x6), (7, .int x_35)] → zHd g hp_37 H → H.size = nx_38 → va_S (zAd g) s.heap H locs → W p l e (zrm (d + 1) 0 0) s m ([.ref h0, .int x1, .int x2, .int x3, .int x4, .int x5, .int x6] : List Value).toArray below meth c H locs 0 0 (MQ below (zQl g Post) ([.ref h0, .int x1, .int x2, .int x3, .int x4, .int x5, .int x6] : List Value).toArray s 0 0 (zAd g)) (F0 m 144 ls [.double x_36]) := by
                        intro x_35 x_36 hp_37 nx_38 H locs ls hw hl hH hz hS
                        have hw := hP_144 x_35 x_36 hp_37 nx_38 hw
                        refine zr_calll (zr_runS (As := [.double x_36]) hk hH hz hS hl.1 hw (va_cwS 1 hts (lw_S q3049 q3050 q162 q3051) rfl rfl rfl (by decide +kernel) (z_room (Nat.le_of_ble_eq_true rfl))) rfl rfl (Nat.le_of_ble_eq_true rfl) dX5_seek_144 ⟨Nat.le_of_ble_eq_true rfl, Nat.le_of_ble_eq_true rfl⟩) hS (fun x_41 hp_39 nx_40 hw H locs hH hz hS => ?_)
                        exact zr_lret hk hr hH hz hS hw (Nat.le_of_ble_eq_true rfl) (Nat.le_of_ble_eq_true rfl) dX5_seek_147
                      refine lv_if_ne (tgt := 140) hx hb dX5_seek_130 (by decide) (fun hc => ?_) (fun hc => ?_)
                      · have hw := hw.2 hc
                        refine zr_aload_n (r := some h0) hx hb dX5_seek_140 rfl (lv_at hl 1 rfl) ?_
                        obtain ⟨a_42, ci_43, fs_44, x_45, er, he, hc, hv, hw⟩ := zgD_e hw
                        refine zw_get hk hH er he hv (fk_X5_520 hc) dX5_seek_141 ?_
                        exact hJ_144 x_34 x_45 hp_32 nx_33 _ _ _ hw (lv_sub hl [1, 2, 3, 4, 5, 6, 7, 0] rfl) hH hz hS
                      · have hw := hw.1 hc
                        refine zr_aload_n (r := some h0) hx hb dX5_seek_133 rfl (lv_at hl 1 rfl) ?_
                        obtain ⟨a_46, ci_47, fs_48, x_49, er, he, hc, hv, hw⟩ := zgD_e hw
                        refine zw_get hk hH er he hv (fk_X5_517 hc) dX5_seek_134 ?_
                        refine lv_goto (tgt := 144) hx hb dX5_seek_137 (by decide) ?_
                        exact hJ_144 x_34 x_49 hp_32 nx_33 _ _ _ hw (lv_sub hl [1, 2, 3, 4, 5, 6, 7, 0] rfl) hH hz hS
                    · have hw := hw.1 hc
                      refine lv_ldc2 hx hb hown (hts _ q3273) dX5_seek_124 ?_
                      exact zr_lret hk hr hH hz hS hw (Nat.le_of_ble_eq_true rfl) (Nat.le_of_ble_eq_true rfl) dX5_seek_127
                  · have hw := hw.1 hc
                    refine zr_aload_n (r := some h0) hx hb dX5_seek_113 rfl (lv_at hl 1 rfl) ?_
                    obtain ⟨a_50, ci_51, fs_52, x_53, er, he, hc, hv, hw⟩ := zgI_e hw
                    refine zw_get hk hH er he hv (fk_X5_511 hc) dX5_seek_114 ?_
                    refine lv_i2l hx hb dX5_seek_117 rfl ?_
                    exact zr_lret hk hr hH hz hS hw (Nat.le_of_ble_eq_true rfl) (Nat.le_of_ble_eq_true rfl) dX5_seek_118
                · have hw := hw.1 hc
                  refine lv_ldc2 hx hb hown (hts _ q3058) dX5_seek_65 ?_
                  exact zr_lret hk hr hH hz hS hw (Nat.le_of_ble_eq_true rfl) (Nat.le_of_ble_eq_true rfl) dX5_seek_68
              · have hw := hw.1 hc
                exact hJ_53 hp_18 nx_19 _ _ _ hw hl hH hz hS
def wp_X5_isWanted (l : Launch) (g : zG) (d : Nat) (x0 : Int32) (hp : zHp) (nx : Nat) (Post : Int32 → zHp → Nat → Prop) : Prop :=
  (zMt l g yX5_in cX5_in 3 (some .boolean) d 0 0 [.int x0, .int (-80000 : Int32), .int (80000 : Int32)] hp nx (zQi g fun x_3 hp_1 nx_2 =>
  (((x_3 = 0 ∨ x_3 = 1) ∧ Post x_3 hp_1 nx_2))))
set_option maxHeartbeats 40000000 in
theorem met_X5_isWanted {l : Launch} {g : zG} {d : Nat} {x0 : Int32} {hp : zHp} {nx : Nat} {Post : Int32 → zHp → Nat → Prop} (hw : wp_X5_isWanted l g d x0 hp nx Post) : zMt l g yX5_isWanted cX5_isWanted 1 (some .boolean) (d + 1) 0 0 [.int x0] hp nx (zQi g Post) := by
  refine z_start (by decide) (Nat.le_of_ble_eq_true rfl) ?_
  intro p e s m below meth c hk hr hin hH hz ls hl
  have hx := hk.1.1
  have hb := hk.1.2.1
  have hown := hk.1.2.2.2.1
  have hts := hk.1.2.2.2.2
  have hS : va_S (zAd g) s.heap s.heap [] := va_S.rf
  have hl : lv_has ls 1 [(0, .int x0)] := hl
  unfold wp_X5_isWanted at hw
  refine lv_iload_n hx hb dX5_isWanted_0 rfl (lv_at hl 0 rfl) ?_
  refine lv_ldcw hx hb hown (hts _ q3188) dX5_isWanted_1 ?_
  refine lv_ldcw hx hb hown (hts _ q3189) dX5_isWanted_4 ?_
  refine zr_calli (zr_runS (As := [.int x0, .int (-80000 : Int32), .int (80000 : Int32)]) hk hH hz hS hl.1 hw (va_cwS 3 hts (lw_S q2911 q2912 q162 q2913) rfl rfl rfl (by decide +kernel) (z_room (Nat.le_of_ble_eq_true rfl))) rfl rfl (Nat.le_of_ble_eq_true rfl) dX5_isWanted_7 ⟨Nat.le_of_ble_eq_true rfl, Nat.le_of_ble_eq_true rfl⟩) hS (fun x_3 hp_1 nx_2 hw H locs hH hz hS => ?_)
  exact zr_zret hk hr hH hz hS hw.1 hw.2 (Nat.le_of_ble_eq_true rfl) (Nat.le_of_ble_eq_true rfl) dX5_isWanted_10
theorem fk_X5_514 {ci : Nat} (h : ci ∈ [5]) : zFk "WhatIfSheetModel" 514 ci 52 := by
  simp only [List.mem_cons, List.not_mem_nil, or_false] at h
  rcases h with rfl
  · exact ⟨RX5, TX5, 76, rfl, by decide, q2726⟩
def wp_X5_seeks (l : Launch) (g : zG) (d : Nat) (h0 : Nat) (x1 : Int32) (x2 : Int32) (x3 : UInt64) (x5 : UInt64) (x7 : UInt64) (hp : zHp) (nx : Nat) (Post : Int32 → zHp → Nat → Prop) : Prop :=
  (zo hp (some h0) [5] fun a_189 ci_190 fs_191 => zMt l g yX5_f cX5_f 7 (some .double) d 0 0 (.ref a_189 :: [.int x1, .int x2, .double x3]) hp nx (zQd g fun x_3 hp_1 nx_2 =>
  (zgI hp_1 (some h0) [5] 52 fun x_7 =>
  ((x_7 = 0 →
  (zo hp_1 (some h0) [5] fun a_186 ci_187 fs_188 => zMt l g yX5_f cX5_f 7 (some .double) d 0 0 (.ref a_186 :: [.int x1, .int x2, .double x5]) hp_1 nx_2 (zQd g fun x_10 hp_8 nx_9 =>
  (zgI hp_8 (some h0) [5] 52 fun x_14 =>
  ((x_14 = 0 →
  (∃ P_61 : UInt64 → UInt64 → UInt64 → UInt64 → zHp → Nat → Prop, (∀ (x_15 : UInt64) (x_16 : UInt64) (x_17 : UInt64) (x_18 : UInt64) (hp_19 : zHp) (nx_20 : Nat), P_61 x_15 x_16 x_17 x_18 hp_19 nx_20 →
  (∃ P_77 : UInt64 → UInt64 → UInt64 → UInt64 → (Option Nat) → UInt64 → zHp → Nat → Prop, (∀ (x_21 : UInt64) (x_22 : UInt64) (x_23 : UInt64) (x_24 : UInt64) (r_25 : Option Nat) (x_26 : UInt64) (hp_27 : zHp) (nx_28 : Nat), P_77 x_21 x_22 x_23 x_24 r_25 x_26 hp_27 nx_28 →
  (zo hp_27 r_25 [5] fun a_31 ci_32 fs_33 => zMt l g yX5_finds cX5_finds 5 none d 0 0 (.ref a_31 :: [.double x_26, .double x7]) hp_27 nx_28 (zQv g fun hp_29 nx_30 =>
  (Post (1 : Int32) hp_29 nx_30)))) ∧
  (((Op.cmpValue (FP.dcmp x_17 x7) .l) = 0 →
  P_77 x_15 x_16 x_17 x_18 (some h0) x_15 hp_19 nx_20) ∧
  (¬ (Op.cmpValue (FP.dcmp x_17 x7) .l) = 0 →
  P_77 x_15 x_16 x_17 x_18 (some h0) x_16 hp_19 nx_20)))) ∧
  (((Op.cmpValue (FP.dcmp x_3 x7) .l) = 0 →
  P_61 x3 x5 x_3 x_10 hp_8 nx_9) ∧
  (¬ (Op.cmpValue (FP.dcmp x_3 x7) .l) = 0 →
  (((Op.cmpValue (FP.dcmp x_10 x7) .l) = 0 →
  P_61 x3 x5 x_3 x_10 hp_8 nx_9) ∧
  (¬ (Op.cmpValue (FP.dcmp x_10 x7) .l) = 0 →
  (∃ P_97 : UInt64 → UInt64 → UInt64 → UInt64 → Int32 → zHp → Nat → Prop, (∀ (x_34 : UInt64) (x_35 : UInt64) (x_36 : UInt64) (x_37 : UInt64) (x_38 : Int32) (hp_39 : zHp) (nx_40 : Nat), P_97 x_34 x_35 x_36 x_37 x_38 hp_39 nx_40 →
  (∃ P_110 : UInt64 → UInt64 → UInt64 → UInt64 → Int32 → Int32 → zHp → Nat → Prop, (∀ (x_41 : UInt64) (x_42 : UInt64) (x_43 : UInt64) (x_44 : UInt64) (x_45 : Int32) (x_46 : Int32) (hp_47 : zHp) (nx_48 : Nat), P_110 x_41 x_42 x_43 x_44 x_45 x_46 hp_47 nx_48 →
  ((x_45 = x_46 →
  (Post (0 : Int32) hp_47 nx_48)) ∧
  (¬ x_45 = x_46 →
  (∃ I_121 : Nat → UInt64 → UInt64 → UInt64 → UInt64 → Int32 → Int32 → zHp → Nat → Prop, (∃ n_185, I_121 n_185 x_41 x_42 x_43 x_44 (0 : Int32) (0 : Int32) hp_47 nx_48) ∧ ∀ (n_57 : Nat) (x_49 : UInt64) (x_50 : UInt64) (x_51 : UInt64) (x_52 : UInt64) (x_53 : Int32) (x_54 : Int32) (hp_55 : zHp) (nx_56 : Nat), I_121 n_57 x_49 x_50 x_51 x_52 x_53 x_54 hp_55 nx_56 →
  (∃ P_322 : UInt64 → UInt64 → UInt64 → UInt64 → Int32 → Int32 → zHp → Nat → Prop, (∀ (x_58 : UInt64) (x_59 : UInt64) (x_60 : UInt64) (x_61 : UInt64) (x_62 : Int32) (x_63 : Int32) (hp_64 : zHp) (nx_65 : Nat), P_322 x_58 x_59 x_60 x_61 x_62 x_63 hp_64 nx_65 →
  (vf_n64 (FP.dsub x_60 x7) ∧ (zMt l g yJ10_abs cJ10_abs 2 (some .double) d 0 0 [.double (FP.dsub x_60 x7)] hp_64 nx_65 (zQd g fun x_68 hp_66 nx_67 =>
  (vf_n64 (FP.dsub x_61 x7) ∧ (zMt l g yJ10_abs cJ10_abs 2 (some .double) d 0 0 [.double (FP.dsub x_61 x7)] hp_66 nx_67 (zQd g fun x_71 hp_69 nx_70 =>
  (∃ P_347 : UInt64 → UInt64 → UInt64 → UInt64 → Int32 → Int32 → Int32 → zHp → Nat → Prop, (∀ (x_72 : UInt64) (x_73 : UInt64) (x_74 : UInt64) (x_75 : UInt64) (x_76 : Int32) (x_77 : Int32) (x_78 : Int32) (hp_79 : zHp) (nx_80 : Nat), P_347 x_72 x_73 x_74 x_75 x_76 x_77 x_78 hp_79 nx_80 →
  (∃ P_362 : UInt64 → UInt64 → UInt64 → UInt64 → Int32 → Int32 → (Option Nat) → UInt64 → zHp → Nat → Prop, (∀ (x_81 : UInt64) (x_82 : UInt64) (x_83 : UInt64) (x_84 : UInt64) (x_85 : Int32) (x_86 : Int32) (r_87 : Option Nat) (x_88 : UInt64) (hp_89 : zHp) (nx_90 : Nat), P_362 x_81 x_82 x_83 x_84 x_85 x_86 r_87 x_88 hp_89 nx_90 →
  (∃ P_374 : UInt64 → UInt64 → UInt64 → UInt64 → Int32 → Int32 → (Option Nat) → UInt64 → UInt64 → zHp → Nat → Prop, (∀ (x_91 : UInt64) (x_92 : UInt64) (x_93 : UInt64) (x_94 : UInt64) (x_95 : Int32) (x_96 : Int32) (r_97 : Option Nat) (x_98 : UInt64) (x_99 : UInt64) (hp_100 : zHp) (nx_101 : Nat), P_374 x_91 x_92 x_93 x_94 x_95 x_96 r_97 x_98 x_99 hp_100 nx_101 →
  (zo hp_100 r_97 [5] fun a_104 ci_105 fs_106 => zMt l g yX5_finds cX5_finds 5 none d 0 0 (.ref a_104 :: [.double x_98, .double x_99]) hp_100 nx_101 (zQv g fun hp_102 nx_103 =>
  (Post (1 : Int32) hp_102 nx_103)))) ∧
  ((x_86 = 0 →
  P_374 x_81 x_82 x_83 x_84 x_85 x_86 r_87 x_88 x_84 hp_89 nx_90) ∧
  (¬ x_86 = 0 →
  P_374 x_81 x_82 x_83 x_84 x_85 x_86 r_87 x_88 x_83 hp_89 nx_90)))) ∧
  ((x_78 = 0 →
  P_362 x_72 x_73 x_74 x_75 x_76 x_78 (some h0) x_73 hp_79 nx_80) ∧
  (¬ x_78 = 0 →
  P_362 x_72 x_73 x_74 x_75 x_76 x_78 (some h0) x_72 hp_79 nx_80)))) ∧
  ((0 < (Op.cmpValue (FP.dcmp x_68 x_71) .g) →
  P_347 x_58 x_59 x_60 x_61 x_62 x_63 (0 : Int32) hp_69 nx_70) ∧
  (¬ 0 < (Op.cmpValue (FP.dcmp x_68 x_71) .g) →
  P_347 x_58 x_59 x_60 x_61 x_62 x_63 (1 : Int32) hp_69 nx_70)))))))))) ∧
  (((40 : Int32) ≤ x_54 →
  P_322 x_49 x_50 x_51 x_52 x_53 x_54 hp_55 nx_56) ∧
  (¬ (40 : Int32) ≤ x_54 →
  (vf_n64 (FP.dsub x_50 x_49) ∧ (∀ x_107 : UInt64, x_107 = FP.dsub x_50 x_49 →
  (vf_n64 (FP.ddiv x_107 (4611686018427387904 : UInt64)) ∧ (vf_n64 (FP.dadd x_49 (FP.ddiv x_107 (4611686018427387904 : UInt64))) ∧ (∀ x_108 : UInt64, x_108 = FP.dadd x_49 (FP.ddiv x_107 (4611686018427387904 : UInt64)) →
  (∃ P_190 : UInt64 → UInt64 → UInt64 → UInt64 → Int32 → Int32 → UInt64 → UInt64 → zHp → Nat → Prop, (∀ (x_109 : UInt64) (x_110 : UInt64) (x_111 : UInt64) (x_112 : UInt64) (x_113 : Int32) (x_114 : Int32) (x_115 : UInt64) (x_116 : UInt64) (hp_117 : zHp) (nx_118 : Nat), P_190 x_109 x_110 x_111 x_112 x_113 x_114 x_115 x_116 hp_117 nx_118 →
  (((Op.cmpValue (FP.dcmp x_116 x_109) .l) ≤ 0 →
  P_322 x_109 x_110 x_111 x_112 x_113 x_114 hp_117 nx_118) ∧
  (¬ (Op.cmpValue (FP.dcmp x_116 x_109) .l) ≤ 0 →
  (((Op.cmpValue (FP.dcmp x_116 x_110) .g) < 0 →
  (zo hp_117 (some h0) [5] fun a_181 ci_182 fs_183 => zMt l g yX5_f cX5_f 7 (some .double) d 0 0 (.ref a_181 :: [.int x1, .int x2, .double x_116]) hp_117 nx_118 (zQd g fun x_121 hp_119 nx_120 =>
  (zgI hp_119 (some h0) [5] 52 fun x_125 =>
  ((x_125 = 0 →
  (((Op.cmpValue (FP.dcmp x_121 x7) .l) = 0 →
  (zo hp_119 (some h0) [5] fun a_178 ci_179 fs_180 => zMt l g yX5_finds cX5_finds 5 none d 0 0 (.ref a_178 :: [.double x_116, .double x_121]) hp_119 nx_120 (zQv g fun hp_176 nx_177 =>
  (Post (1 : Int32) hp_176 nx_177)))) ∧
  (¬ (Op.cmpValue (FP.dcmp x_121 x7) .l) = 0 →
  (∃ P_259 : UInt64 → UInt64 → UInt64 → UInt64 → Int32 → Int32 → UInt64 → UInt64 → UInt64 → Int32 → zHp → Nat → Prop, (∀ (x_126 : UInt64) (x_127 : UInt64) (x_128 : UInt64) (x_129 : UInt64) (x_130 : Int32) (x_131 : Int32) (x_132 : UInt64) (x_133 : UInt64) (x_134 : UInt64) (x_135 : Int32) (hp_136 : zHp) (nx_137 : Nat), P_259 x_126 x_127 x_128 x_129 x_130 x_131 x_132 x_133 x_134 x_135 hp_136 nx_137 →
  (∃ P_272 : UInt64 → UInt64 → UInt64 → UInt64 → Int32 → Int32 → UInt64 → UInt64 → UInt64 → Int32 → Int32 → zHp → Nat → Prop, (∀ (x_138 : UInt64) (x_139 : UInt64) (x_140 : UInt64) (x_141 : UInt64) (x_142 : Int32) (x_143 : Int32) (x_144 : UInt64) (x_145 : UInt64) (x_146 : UInt64) (x_147 : Int32) (x_148 : Int32) (hp_149 : zHp) (nx_150 : Nat), P_272 x_138 x_139 x_140 x_141 x_142 x_143 x_144 x_145 x_146 x_147 x_148 hp_149 nx_150 →
  (∃ P_294 : UInt64 → UInt64 → UInt64 → UInt64 → Int32 → Int32 → UInt64 → UInt64 → UInt64 → zHp → Nat → Prop, (∀ (x_151 : UInt64) (x_152 : UInt64) (x_153 : UInt64) (x_154 : UInt64) (x_155 : Int32) (x_156 : Int32) (x_157 : UInt64) (x_158 : UInt64) (x_159 : UInt64) (hp_160 : zHp) (nx_161 : Nat), P_294 x_151 x_152 x_153 x_154 x_155 x_156 x_157 x_158 x_159 hp_160 nx_161 →
  (vf_n64 (FP.dsub x_152 x_151) ∧ (vf_n64 (FP.ddiv x_157 (4611686018427387904 : UInt64)) ∧ (∃ P_314 : UInt64 → UInt64 → UInt64 → UInt64 → Int32 → Int32 → UInt64 → UInt64 → UInt64 → Int32 → zHp → Nat → Prop, (∀ (x_162 : UInt64) (x_163 : UInt64) (x_164 : UInt64) (x_165 : UInt64) (x_166 : Int32) (x_167 : Int32) (x_168 : UInt64) (x_169 : UInt64) (x_170 : UInt64) (x_171 : Int32) (hp_172 : zHp) (nx_173 : Nat), P_314 x_162 x_163 x_164 x_165 x_166 x_167 x_168 x_169 x_170 x_171 hp_172 nx_173 →
  (∀ x_174 : Int32, x_174 = x_167 + (1 : Int32) →
  (∃ k_175, k_175 < n_57 ∧ I_121 k_175 x_162 x_163 x_164 x_165 x_171 x_174 hp_172 nx_173))) ∧
  ((0 < (Op.cmpValue (FP.dcmp (FP.dsub x_152 x_151) (FP.ddiv x_157 (4611686018427387904 : UInt64))) .g) →
  P_314 x_151 x_152 x_153 x_154 x_155 x_156 x_157 x_158 x_159 (0 : Int32) hp_160 nx_161) ∧
  (¬ 0 < (Op.cmpValue (FP.dcmp (FP.dsub x_152 x_151) (FP.ddiv x_157 (4611686018427387904 : UInt64))) .g) →
  P_314 x_151 x_152 x_153 x_154 x_155 x_156 x_157 x_158 x_159 (1 : Int32) hp_160 nx_161)))))) ∧
  ((x_147 = x_148 →
  P_294 x_145 x_139 x_146 x_141 x_142 x_143 x_144 x_145 x_146 hp_149 nx_150) ∧
  (¬ x_147 = x_148 →
  P_294 x_138 x_145 x_140 x_146 x_142 x_143 x_144 x_145 x_146 hp_149 nx_150)))) ∧
  ((0 ≤ (Op.cmpValue (FP.dcmp x_128 x7) .g) →
  P_272 x_126 x_127 x_128 x_129 x_130 x_131 x_132 x_133 x_134 x_135 (0 : Int32) hp_136 nx_137) ∧
  (¬ 0 ≤ (Op.cmpValue (FP.dcmp x_128 x7) .g) →
  P_272 x_126 x_127 x_128 x_129 x_130 x_131 x_132 x_133 x_134 x_135 (1 : Int32) hp_136 nx_137)))) ∧
  ((0 ≤ (Op.cmpValue (FP.dcmp x_121 x7) .g) →
  P_259 x_109 x_110 x_111 x_112 x_113 x_114 x_115 x_116 x_121 (0 : Int32) hp_119 nx_120) ∧
  (¬ 0 ≤ (Op.cmpValue (FP.dcmp x_121 x7) .g) →
  P_259 x_109 x_110 x_111 x_112 x_113 x_114 x_115 x_116 x_121 (1 : Int32) hp_119 nx_120)))))) ∧
  (¬ x_125 = 0 →
  (Post (0 : Int32) hp_119 nx_120))))))) ∧
  (¬ (Op.cmpValue (FP.dcmp x_116 x_110) .g) < 0 →
  P_322 x_109 x_110 x_111 x_112 x_113 x_114 hp_117 nx_118))))) ∧
  ((x_53 = 0 →
  P_190 x_49 x_50 x_51 x_52 x_53 x_54 x_107 x_108 hp_55 nx_56) ∧
  (¬ x_53 = 0 →
  (vf_n64 (FP.dsub x7 x_51) ∧ (vf_n64 (FP.dmul (FP.dsub x7 x_51) x_107) ∧ (vf_n64 (FP.dsub x_52 x_51) ∧ (vf_n64 (FP.ddiv (FP.dmul (FP.dsub x7 x_51) x_107) (FP.dsub x_52 x_51)) ∧ (vf_n64 (FP.dadd x_49 (FP.ddiv (FP.dmul (FP.dsub x7 x_51) x_107) (FP.dsub x_52 x_51))) ∧ (∀ x_184 : UInt64, x_184 = FP.dadd x_49 (FP.ddiv (FP.dmul (FP.dsub x7 x_51) x_107) (FP.dsub x_52 x_51)) →
  (((Op.cmpValue (FP.dcmp x_184 x_49) .l) ≤ 0 →
  P_190 x_49 x_50 x_51 x_52 x_53 x_54 x_107 x_108 hp_55 nx_56) ∧
  (¬ (Op.cmpValue (FP.dcmp x_184 x_49) .l) ≤ 0 →
  ((0 ≤ (Op.cmpValue (FP.dcmp x_184 x_50) .g) →
  P_190 x_49 x_50 x_51 x_52 x_53 x_54 x_107 x_108 hp_55 nx_56) ∧
  (¬ 0 ≤ (Op.cmpValue (FP.dcmp x_184 x_50) .g) →
  P_190 x_49 x_50 x_51 x_52 x_53 x_54 x_107 x_184 hp_55 nx_56))))))))))))))))))))))))) ∧
  ((0 ≤ (Op.cmpValue (FP.dcmp x_37 x7) .g) →
  P_110 x_34 x_35 x_36 x_37 x_38 (0 : Int32) hp_39 nx_40) ∧
  (¬ 0 ≤ (Op.cmpValue (FP.dcmp x_37 x7) .g) →
  P_110 x_34 x_35 x_36 x_37 x_38 (1 : Int32) hp_39 nx_40)))) ∧
  ((0 ≤ (Op.cmpValue (FP.dcmp x_3 x7) .g) →
  P_97 x3 x5 x_3 x_10 (0 : Int32) hp_8 nx_9) ∧
  (¬ 0 ≤ (Op.cmpValue (FP.dcmp x_3 x7) .g) →
  P_97 x3 x5 x_3 x_10 (1 : Int32) hp_8 nx_9))))))))) ∧
  (¬ x_14 = 0 →
  (Post (0 : Int32) hp_8 nx_9))))))) ∧
  (¬ x_7 = 0 →
  (Post (0 : Int32) hp_1 nx_2))))))
set_option maxHeartbeats 40000000 in
theorem met_X5_seeks {l : Launch} {g : zG} {d : Nat} {h0 : Nat} {x1 : Int32} {x2 : Int32} {x3 : UInt64} {x5 : UInt64} {x7 : UInt64} {hp : zHp} {nx : Nat} {Post : Int32 → zHp → Nat → Prop} (hw : wp_X5_seeks l g d h0 x1 x2 x3 x5 x7 hp nx Post) : zMt l g yX5_seeks cX5_seeks 25 (some .boolean) (d + 1) 0 0 [.ref h0, .int x1, .int x2, .double x3, .double x5, .double x7] hp nx (zQi g Post) := by
  refine z_start (by decide) (Nat.le_of_ble_eq_true rfl) ?_
  intro p e s m below meth c hk hr hin hH hz ls hl
  have hx := hk.1.1
  have hb := hk.1.2.1
  have hown := hk.1.2.2.2.1
  have hts := hk.1.2.2.2.2
  have hS : va_S (zAd g) s.heap s.heap [] := va_S.rf
  have hl : lv_has ls 25 [(0, va_rf (some h0)), (1, .int x1), (2, .int x2), (3, .double x3), (5, .double x5), (7, .double x7)] := hl
  unfold wp_X5_seeks at hw
  refine lv_dload_n hx hb dX5_seeks_0 rfl (lv_at hl 3 rfl) ?_
  refine lv_dstore (lv' := [(9, .double x3), (0, va_rf (some h0)), (1, .int x1), (2, .int x2), (3, .double x3), (5, .double x5), (7, .double x7)]) hx hb dX5_seeks_1 hl (by decide) (by first | rfl | simp [List.filter_cons, z_cat, z_catI, z_catJ, z_catF, z_catD]) (fun ls hl => ?_)
  refine lv_dload hx hb dX5_seeks_3 (lv_at hl 5 rfl) ?_
  refine lv_dstore (lv' := [(11, .double x5), (9, .double x3), (0, va_rf (some h0)), (1, .int x1), (2, .int x2), (3, .double x3), (5, .double x5), (7, .double x7)]) hx hb dX5_seeks_5 hl (by decide) (by first | rfl | simp [List.filter_cons, z_cat, z_catI, z_catJ, z_catF, z_catD]) (fun ls hl => ?_)
  refine zr_aload_n (r := some h0) hx hb dX5_seeks_7 rfl (lv_at hl 2 rfl) ?_
  refine lv_iload_n hx hb dX5_seeks_8 rfl (lv_at hl 3 rfl) ?_
  refine lv_iload_n hx hb dX5_seeks_9 rfl (lv_at hl 4 rfl) ?_
  refine lv_dload hx hb dX5_seeks_10 (lv_at hl 1 rfl) ?_
  obtain ⟨a_189, ci_190, fs_191, er, he, hc, hw⟩ := zo_e hw
  obtain rfl := List.mem_singleton.mp hc
  refine zr_calld (zw_runV (As := [.int x1, .int x2, .double x3]) hk hH hz hS hl.1 er hw (cwV 3 hts (lw_V q3256 q3258 qs122 q162 q3259) rfl rfl rfl (by decide +kernel) (z_room (Nat.le_of_ble_eq_true rfl))) he rfl rfl rfl (Nat.le_of_ble_eq_true rfl) dX5_seeks_12 ⟨Nat.le_of_ble_eq_true rfl, Nat.le_of_ble_eq_true rfl⟩) hS (fun x_3 hp_1 nx_2 hw H locs hH hz hS => ?_)
  refine lv_dstore (lv' := [(13, .double x_3), (11, .double x5), (9, .double x3), (0, va_rf (some h0)), (1, .int x1), (2, .int x2), (3, .double x3), (5, .double x5), (7, .double x7)]) hx hb dX5_seeks_15 hl (by decide) (by first | rfl | simp [List.filter_cons, z_cat, z_catI, z_catJ, z_catF, z_catD]) (fun ls hl => ?_)
  refine zr_aload_n (r := some h0) hx hb dX5_seeks_17 rfl (lv_at hl 3 rfl) ?_
  obtain ⟨a_4, ci_5, fs_6, x_7, er, he, hc, hv, hw⟩ := zgI_e hw
  refine zw_get hk hH er he hv (fk_X5_514 hc) dX5_seeks_18 ?_
  refine lv_if_eq (tgt := 26) hx hb dX5_seeks_21 (by decide) (fun hc => ?_) (fun hc => ?_)
  · have hw := hw.1 hc
    refine zr_aload_n (r := some h0) hx hb dX5_seeks_26 rfl (lv_at hl 3 rfl) ?_
    refine lv_iload_n hx hb dX5_seeks_27 rfl (lv_at hl 4 rfl) ?_
    refine lv_iload_n hx hb dX5_seeks_28 rfl (lv_at hl 5 rfl) ?_
    refine lv_dload hx hb dX5_seeks_29 (lv_at hl 1 rfl) ?_
    obtain ⟨a_186, ci_187, fs_188, er, he, hc, hw⟩ := zo_e hw
    obtain rfl := List.mem_singleton.mp hc
    refine zr_calld (zw_runV (As := [.int x1, .int x2, .double x5]) hk hH hz hS hl.1 er hw (cwV 3 hts (lw_V q3256 q3258 qs122 q162 q3259) rfl rfl rfl (by decide +kernel) (z_room (Nat.le_of_ble_eq_true rfl))) he rfl rfl rfl (Nat.le_of_ble_eq_true rfl) dX5_seeks_31 ⟨Nat.le_of_ble_eq_true rfl, Nat.le_of_ble_eq_true rfl⟩) hS (fun x_10 hp_8 nx_9 hw H locs hH hz hS => ?_)
    refine lv_dstore (lv' := [(15, .double x_10), (13, .double x_3), (11, .double x5), (9, .double x3), (0, va_rf (some h0)), (1, .int x1), (2, .int x2), (3, .double x3), (5, .double x5), (7, .double x7)]) hx hb dX5_seeks_34 hl (by decide) (by first | rfl | simp [List.filter_cons, z_cat, z_catI, z_catJ, z_catF, z_catD]) (fun ls hl => ?_)
    refine zr_aload_n (r := some h0) hx hb dX5_seeks_36 rfl (lv_at hl 4 rfl) ?_
    obtain ⟨a_11, ci_12, fs_13, x_14, er, he, hc, hv, hw⟩ := zgI_e hw
    refine zw_get hk hH er he hv (fk_X5_514 hc) dX5_seeks_37 ?_
    refine lv_if_eq (tgt := 45) hx hb dX5_seeks_40 (by decide) (fun hc => ?_) (fun hc => ?_)
    · have hw := hw.1 hc
      refine lv_dload hx hb dX5_seeks_45 (lv_at hl 1 rfl) ?_
      refine lv_dload hx hb dX5_seeks_47 (lv_at hl 9 rfl) ?_
      refine lv_dcmp hx hb dX5_seeks_49 ?_
      obtain ⟨P_61, hP_61, hw⟩ := hw
      have hJ_61 : ∀ (x_15 : UInt64) (x_16 : UInt64) (x_17 : UInt64) (x_18 : UInt64) (hp_19 : zHp) (nx_20 : Nat) (H : Heap) (locs : List Loc) (ls : Array Slot), P_61 x_15 x_16 x_17 x_18 hp_19 nx_20 → lv_has ls 25 [(0, va_rf (some h0)), (1, .int x1), (2, .int x2), (3, .double x3), (5, .double x5), (7, .double x7), (9, .double x_15), (11, .double x_16), (13, .double x_17), (15, .double x_18)] → zHd g hp_19 H → H.size = nx_20 → va_S (zAd g) s.heap H locs → W p l e (zrm (d + 1) 0 0) s m ([.ref h0, .int x1, .int x2, .double x3, .double x5, .double x7] : List Value).toArray below meth c H locs 0 0 (MQ below (zQi g Post) ([.ref h0, .int x1, .int x2, .double x3, .double x5, .double x7] : List Value).toArray s 0 0 (zAd g)) (F0 m 61 ls []) := by
        intro x_15 x_16 x_17 x_18 hp_19 nx_20 H locs ls hw hl hH hz hS
        have hw := hP_61 x_15 x_16 x_17 x_18 hp_19 nx_20 hw
        refine zr_aload_n (r := some h0) hx hb dX5_seeks_61 rfl (lv_at hl 0 rfl) ?_
        refine lv_dload hx hb dX5_seeks_62 (lv_at hl 8 rfl) ?_
        refine lv_dload hx hb dX5_seeks_64 (lv_at hl 5 rfl) ?_
        refine lv_dcmp hx hb dX5_seeks_66 ?_
        obtain ⟨P_77, hP_77, hw⟩ := hw
        have hJ_77 : ∀ (x_21 : UInt64) (x_22 : UInt64) (x_23 : UInt64) (x_24 : UInt64) (r_25 : Option Nat) (x_26 : UInt64) (hp_27 : zHp) (nx_28 : Nat) (H : Heap) (locs : List Loc) (ls : Array Slot), P_77 x_21 x_22 x_23 x_24 r_25 x_26 hp_27 nx_28 → lv_has ls 25 [(0, va_rf (some h0)), (1, .int x1), (2, .int x2), (3, .double x3), (5, .double x5), (7, .double x7), (9, .double x_21), (11, .double x_22), (13, .double x_23), (15, .double x_24)] → zHd g hp_27 H → H.size = nx_28 → va_S (zAd g) s.heap H locs → W p l e (zrm (d + 1) 0 0) s m ([.ref h0, .int x1, .int x2, .double x3, .double x5, .double x7] : List Value).toArray below meth c H locs 0 0 (MQ below (zQi g Post) ([.ref h0, .int x1, .int x2, .double x3, .double x5, .double x7] : List Value).toArray s 0 0 (zAd g)) (F0 m 77 ls [.double x_26, va_rf r_25]) := by
          intro x_21 x_22 x_23 x_24 r_25 x_26 hp_27 nx_28 H locs ls hw hl hH hz hS
          have hw := hP_77 x_21 x_22 x_23 x_24 r_25 x_26 hp_27 nx_28 hw
          refine lv_dload hx hb dX5_seeks_77 (lv_at hl 5 rfl) ?_
          obtain ⟨a_31, ci_32, fs_33, er, he, hc, hw⟩ := zo_e hw
          obtain rfl := List.mem_singleton.mp hc
          refine zr_callv (zw_runV (As := [.double x_26, .double x7]) hk hH hz hS hl.1 er hw (cwV 2 hts (lw_V q3260 q3262 qs123 q162 q3263) rfl rfl rfl (by decide +kernel) (z_room (Nat.le_of_ble_eq_true rfl))) he rfl rfl rfl (Nat.le_of_ble_eq_true rfl) dX5_seeks_79 ⟨Nat.le_of_ble_eq_true rfl, Nat.le_of_ble_eq_true rfl⟩) hS (fun hp_29 nx_30 hw H locs hH hz hS => ?_)
          refine lv_iconst (v := (1 : Int32)) hx hb dX5_seeks_82 (by decide) ?_
          exact zr_zret hk hr hH hz hS (Or.inr rfl) hw (Nat.le_of_ble_eq_true rfl) (Nat.le_of_ble_eq_true rfl) dX5_seeks_83
        refine lv_if_ne (tgt := 75) hx hb dX5_seeks_67 (by decide) (fun hc => ?_) (fun hc => ?_)
        · have hw := hw.2 hc
          refine lv_dload hx hb dX5_seeks_75 (lv_at hl 7 rfl) ?_
          exact hJ_77 x_15 x_16 x_17 x_18 (some h0) x_16 hp_19 nx_20 _ _ _ hw hl hH hz hS
        · have hw := hw.1 hc
          refine lv_dload hx hb dX5_seeks_70 (lv_at hl 6 rfl) ?_
          refine lv_goto (tgt := 77) hx hb dX5_seeks_72 (by decide) ?_
          exact hJ_77 x_15 x_16 x_17 x_18 (some h0) x_15 hp_19 nx_20 _ _ _ hw hl hH hz hS
      refine lv_if_eq (tgt := 61) hx hb dX5_seeks_50 (by decide) (fun hc => ?_) (fun hc => ?_)
      · have hw := hw.1 hc
        exact hJ_61 x3 x5 x_3 x_10 hp_8 nx_9 _ _ _ hw (lv_sub hl [4, 5, 6, 7, 8, 9, 3, 2, 1, 0] rfl) hH hz hS
      · have hw := hw.2 hc
        refine lv_dload hx hb dX5_seeks_53 (lv_at hl 0 rfl) ?_
        refine lv_dload hx hb dX5_seeks_55 (lv_at hl 9 rfl) ?_
        refine lv_dcmp hx hb dX5_seeks_57 ?_
        refine lv_if_ne (tgt := 84) hx hb dX5_seeks_58 (by decide) (fun hc => ?_) (fun hc => ?_)
        · have hw := hw.2 hc
          refine lv_dload hx hb dX5_seeks_84 (lv_at hl 1 rfl) ?_
          refine lv_dload hx hb dX5_seeks_86 (lv_at hl 9 rfl) ?_
          refine lv_dcmp hx hb dX5_seeks_88 ?_
          obtain ⟨P_97, hP_97, hw⟩ := hw
          have hJ_97 : ∀ (x_34 : UInt64) (x_35 : UInt64) (x_36 : UInt64) (x_37 : UInt64) (x_38 : Int32) (hp_39 : zHp) (nx_40 : Nat) (H : Heap) (locs : List Loc) (ls : Array Slot), P_97 x_34 x_35 x_36 x_37 x_38 hp_39 nx_40 → lv_has ls 25 [(0, va_rf (some h0)), (1, .int x1), (2, .int x2), (3, .double x3), (5, .double x5), (7, .double x7), (9, .double x_34), (11, .double x_35), (13, .double x_36), (15, .double x_37)] → zHd g hp_39 H → H.size = nx_40 → va_S (zAd g) s.heap H locs → W p l e (zrm (d + 1) 0 0) s m ([.ref h0, .int x1, .int x2, .double x3, .double x5, .double x7] : List Value).toArray below meth c H locs 0 0 (MQ below (zQi g Post) ([.ref h0, .int x1, .int x2, .double x3, .double x5, .double x7] : List Value).toArray s 0 0 (zAd g)) (F0 m 97 ls [.int x_38]) := by
            intro x_34 x_35 x_36 x_37 x_38 hp_39 nx_40 H locs ls hw hl hH hz hS
            have hw := hP_97 x_34 x_35 x_36 x_37 x_38 hp_39 nx_40 hw
            refine lv_dload hx hb dX5_seeks_97 (lv_at hl 9 rfl) ?_
            refine lv_dload hx hb dX5_seeks_99 (lv_at hl 5 rfl) ?_
            refine lv_dcmp hx hb dX5_seeks_101 ?_
            obtain ⟨P_110, hP_110, hw⟩ := hw
            have hJ_110 : ∀ (x_41 : UInt64) (x_42 : UInt64) (x_43 : UInt64) (x_44 : UInt64) (x_45 : Int32) (x_46 : Int32) (hp_47 : zHp) (nx_48 : Nat) (H : Heap) (locs : List Loc) (ls : Array Slot), P_110 x_41 x_42 x_43 x_44 x_45 x_46 hp_47 nx_48 → lv_has ls 25 [(0, va_rf (some h0)), (1, .int x1), (2, .int x2), (3, .double x3), (5, .double x5), (7, .double x7), (9, .double x_41), (11, .double x_42), (13, .double x_43), (15, .double x_44)] → zHd g hp_47 H → H.size = nx_48 → va_S (zAd g) s.heap H locs → W p l e (zrm (d + 1) 0 0) s m ([.ref h0, .int x1, .int x2, .double x3, .double x5, .double x7] : List Value).toArray below meth c H locs 0 0 (MQ below (zQi g Post) ([.ref h0, .int x1, .int x2, .double x3, .double x5, .double x7] : List Value).toArray s 0 0 (zAd g)) (F0 m 110 ls [.int x_46, .int x_45]) := by
              intro x_41 x_42 x_43 x_44 x_45 x_46 hp_47 nx_48 H locs ls hw hl hH hz hS
              have hw := hP_110 x_41 x_42 x_43 x_44 x_45 x_46 hp_47 nx_48 hw
              refine lv_icmp_ne (tgt := 115) hx hb dX5_seeks_110 (by decide) (fun hc => ?_) (fun hc => ?_)
              · have hw := hw.2 hc
                refine lv_iconst (v := (0 : Int32)) hx hb dX5_seeks_115 (by decide) ?_
                refine lv_istore (lv' := [(17, .int (0 : Int32)), (0, va_rf (some h0)), (1, .int x1), (2, .int x2), (3, .double x3), (5, .double x5), (7, .double x7), (9, .double x_41), (11, .double x_42), (13, .double x_43), (15, .double x_44)]) hx hb dX5_seeks_116 hl (by decide) (by first | rfl | simp [List.filter_cons, z_cat, z_catI, z_catJ, z_catF, z_catD]) (fun ls hl => ?_)
                refine lv_iconst (v := (0 : Int32)) hx hb dX5_seeks_118 (by decide) ?_
                refine lv_istore (lv' := [(18, .int (0 : Int32)), (17, .int (0 : Int32)), (0, va_rf (some h0)), (1, .int x1), (2, .int x2), (3, .double x3), (5, .double x5), (7, .double x7), (9, .double x_41), (11, .double x_42), (13, .double x_43), (15, .double x_44)]) hx hb dX5_seeks_119 hl (by decide) (by first | rfl | simp [List.filter_cons, z_cat, z_catI, z_catJ, z_catF, z_catD]) (fun ls hl => ?_)
                obtain ⟨I_121, ⟨n_185, hI⟩, hB_121⟩ := hw
                have hL_121 : ∀ (n_57 : Nat) (x_49 : UInt64) (x_50 : UInt64) (x_51 : UInt64) (x_52 : UInt64) (x_53 : Int32) (x_54 : Int32) (hp_55 : zHp) (nx_56 : Nat) (H : Heap) (locs : List Loc) (ls : Array Slot), I_121 n_57 x_49 x_50 x_51 x_52 x_53 x_54 hp_55 nx_56 → lv_has ls 25 [(0, va_rf (some h0)), (1, .int x1), (2, .int x2), (3, .double x3), (5, .double x5), (7, .double x7), (9, .double x_49), (11, .double x_50), (13, .double x_51), (15, .double x_52), (17, .int x_53), (18, .int x_54)] → zHd g hp_55 H → H.size = nx_56 → va_S (zAd g) s.heap H locs → W p l e (zrm (d + 1) 0 0) s m ([.ref h0, .int x1, .int x2, .double x3, .double x5, .double x7] : List Value).toArray below meth c H locs 0 0 (MQ below (zQi g Post) ([.ref h0, .int x1, .int x2, .double x3, .double x5, .double x7] : List Value).toArray s 0 0 (zAd g)) (F0 m 121 ls []) := by
                  intro n_57
                  induction n_57 using Nat.strongRecOn with
                  | _ n_57 ih_121 =>
                    intro x_49 x_50 x_51 x_52 x_53 x_54 hp_55 nx_56 H locs ls hw hl hH hz hS
                    have hw := hB_121 n_57 x_49 x_50 x_51 x_52 x_53 x_54 hp_55 nx_56 hw
                    refine lv_iload hx hb dX5_seeks_121 (lv_at hl 11 rfl) ?_
                    refine lv_bipush (v := (40 : Int32)) hx hb dX5_seeks_123 (by decide) ?_
                    obtain ⟨P_322, hP_322, hw⟩ := hw
                    have hJ_322 : ∀ (x_58 : UInt64) (x_59 : UInt64) (x_60 : UInt64) (x_61 : UInt64) (x_62 : Int32) (x_63 : Int32) (hp_64 : zHp) (nx_65 : Nat) (H : Heap) (locs : List Loc) (ls : Array Slot), P_322 x_58 x_59 x_60 x_61 x_62 x_63 hp_64 nx_65 → lv_has ls 25 [(0, va_rf (some h0)), (1, .int x1), (2, .int x2), (3, .double x3), (5, .double x5), (7, .double x7), (9, .double x_58), (11, .double x_59), (13, .double x_60), (15, .double x_61), (17, .int x_62), (18, .int x_63)] → zHd g hp_64 H → H.size = nx_65 → va_S (zAd g) s.heap H locs → W p l e (zrm (d + 1) 0 0) s m ([.ref h0, .int x1, .int x2, .double x3, .double x5, .double x7] : List Value).toArray below meth c H locs 0 0 (MQ below (zQi g Post) ([.ref h0, .int x1, .int x2, .double x3, .double x5, .double x7] : List Value).toArray s 0 0 (zAd g)) (F0 m 322 ls []) := by
                      intro x_58 x_59 x_60 x_61 x_62 x_63 hp_64 nx_65 H locs ls hw hl hH hz hS
                      have hw := hP_322 x_58 x_59 x_60 x_61 x_62 x_63 hp_64 nx_65 hw
                      refine lv_dload hx hb dX5_seeks_322 (lv_at hl 8 rfl) ?_
                      refine lv_dload hx hb dX5_seeks_324 (lv_at hl 5 rfl) ?_
                      obtain ⟨hne, hw⟩ := hw
                      refine lv_dsub hx hb dX5_seeks_326 hne ?_
                      refine zr_calld (zr_runS (As := [.double (FP.dsub x_60 x7)]) hk hH hz hS hl.1 hw (va_cwS 1 hts (lw_S q3265 q3266 q143 q3267) rfl rfl rfl (by decide +kernel) (z_room (Nat.le_of_ble_eq_true rfl))) rfl rfl (Nat.le_of_ble_eq_true rfl) dX5_seeks_327 ⟨Nat.le_of_ble_eq_true rfl, Nat.le_of_ble_eq_true rfl⟩) hS (fun x_68 hp_66 nx_67 hw H locs hH hz hS => ?_)
                      refine lv_dload hx hb dX5_seeks_330 (lv_at hl 9 rfl) ?_
                      refine lv_dload hx hb dX5_seeks_332 (lv_at hl 5 rfl) ?_
                      obtain ⟨hne, hw⟩ := hw
                      refine lv_dsub hx hb dX5_seeks_334 hne ?_
                      refine zr_calld (zr_runS (As := [.double (FP.dsub x_61 x7)]) hk hH hz hS hl.1 hw (va_cwS 1 hts (lw_S q3265 q3266 q143 q3267) rfl rfl rfl (by decide +kernel) (z_room (Nat.le_of_ble_eq_true rfl))) rfl rfl (Nat.le_of_ble_eq_true rfl) dX5_seeks_335 ⟨Nat.le_of_ble_eq_true rfl, Nat.le_of_ble_eq_true rfl⟩) hS (fun x_71 hp_69 nx_70 hw H locs hH hz hS => ?_)
                      refine lv_dcmp hx hb dX5_seeks_338 ?_
                      obtain ⟨P_347, hP_347, hw⟩ := hw
                      have hJ_347 : ∀ (x_72 : UInt64) (x_73 : UInt64) (x_74 : UInt64) (x_75 : UInt64) (x_76 : Int32) (x_77 : Int32) (x_78 : Int32) (hp_79 : zHp) (nx_80 : Nat) (H : Heap) (locs : List Loc) (ls : Array Slot), P_347 x_72 x_73 x_74 x_75 x_76 x_77 x_78 hp_79 nx_80 → lv_has ls 25 [(0, va_rf (some h0)), (1, .int x1), (2, .int x2), (3, .double x3), (5, .double x5), (7, .double x7), (9, .double x_72), (11, .double x_73), (13, .double x_74), (15, .double x_75), (17, .int x_76), (18, .int x_77)] → zHd g hp_79 H → H.size = nx_80 → va_S (zAd g) s.heap H locs → W p l e (zrm (d + 1) 0 0) s m ([.ref h0, .int x1, .int x2, .double x3, .double x5, .double x7] : List Value).toArray below meth c H locs 0 0 (MQ below (zQi g Post) ([.ref h0, .int x1, .int x2, .double x3, .double x5, .double x7] : List Value).toArray s 0 0 (zAd g)) (F0 m 347 ls [.int x_78]) := by
                        intro x_72 x_73 x_74 x_75 x_76 x_77 x_78 hp_79 nx_80 H locs ls hw hl hH hz hS
                        have hw := hP_347 x_72 x_73 x_74 x_75 x_76 x_77 x_78 hp_79 nx_80 hw
                        refine lv_istore (lv' := [(18, .int x_78), (0, va_rf (some h0)), (1, .int x1), (2, .int x2), (3, .double x3), (5, .double x5), (7, .double x7), (9, .double x_72), (11, .double x_73), (13, .double x_74), (15, .double x_75), (17, .int x_76)]) hx hb dX5_seeks_347 hl (by decide) (by first | rfl | simp [List.filter_cons, z_cat, z_catI, z_catJ, z_catF, z_catD]) (fun ls hl => ?_)
                        refine zr_aload_n (r := some h0) hx hb dX5_seeks_349 rfl (lv_at hl 1 rfl) ?_
                        refine lv_iload hx hb dX5_seeks_350 (lv_at hl 0 rfl) ?_
                        obtain ⟨P_362, hP_362, hw⟩ := hw
                        have hJ_362 : ∀ (x_81 : UInt64) (x_82 : UInt64) (x_83 : UInt64) (x_84 : UInt64) (x_85 : Int32) (x_86 : Int32) (r_87 : Option Nat) (x_88 : UInt64) (hp_89 : zHp) (nx_90 : Nat) (H : Heap) (locs : List Loc) (ls : Array Slot), P_362 x_81 x_82 x_83 x_84 x_85 x_86 r_87 x_88 hp_89 nx_90 → lv_has ls 25 [(0, va_rf (some h0)), (1, .int x1), (2, .int x2), (3, .double x3), (5, .double x5), (7, .double x7), (9, .double x_81), (11, .double x_82), (13, .double x_83), (15, .double x_84), (17, .int x_85), (18, .int x_86)] → zHd g hp_89 H → H.size = nx_90 → va_S (zAd g) s.heap H locs → W p l e (zrm (d + 1) 0 0) s m ([.ref h0, .int x1, .int x2, .double x3, .double x5, .double x7] : List Value).toArray below meth c H locs 0 0 (MQ below (zQi g Post) ([.ref h0, .int x1, .int x2, .double x3, .double x5, .double x7] : List Value).toArray s 0 0 (zAd g)) (F0 m 362 ls [.double x_88, va_rf r_87]) := by
                          intro x_81 x_82 x_83 x_84 x_85 x_86 r_87 x_88 hp_89 nx_90 H locs ls hw hl hH hz hS
                          have hw := hP_362 x_81 x_82 x_83 x_84 x_85 x_86 r_87 x_88 hp_89 nx_90 hw
                          refine lv_iload hx hb dX5_seeks_362 (lv_at hl 11 rfl) ?_
                          obtain ⟨P_374, hP_374, hw⟩ := hw
                          have hJ_374 : ∀ (x_91 : UInt64) (x_92 : UInt64) (x_93 : UInt64) (x_94 : UInt64) (x_95 : Int32) (x_96 : Int32) (r_97 : Option Nat) (x_98 : UInt64) (x_99 : UInt64) (hp_100 : zHp) (nx_101 : Nat) (H : Heap) (locs : List Loc) (ls : Array Slot), P_374 x_91 x_92 x_93 x_94 x_95 x_96 r_97 x_98 x_99 hp_100 nx_101 → lv_has ls 25 [(0, va_rf (some h0)), (1, .int x1), (2, .int x2), (3, .double x3), (5, .double x5), (7, .double x7), (9, .double x_91), (11, .double x_92), (13, .double x_93), (15, .double x_94), (17, .int x_95), (18, .int x_96)] → zHd g hp_100 H → H.size = nx_101 → va_S (zAd g) s.heap H locs → W p l e (zrm (d + 1) 0 0) s m ([.ref h0, .int x1, .int x2, .double x3, .double x5, .double x7] : List Value).toArray below meth c H locs 0 0 (MQ below (zQi g Post) ([.ref h0, .int x1, .int x2, .double x3, .double x5, .double x7] : List Value).toArray s 0 0 (zAd g)) (F0 m 374 ls [.double x_99, .double x_98, va_rf r_97]) := by
                            intro x_91 x_92 x_93 x_94 x_95 x_96 r_97 x_98 x_99 hp_100 nx_101 H locs ls hw hl hH hz hS
                            have hw := hP_374 x_91 x_92 x_93 x_94 x_95 x_96 r_97 x_98 x_99 hp_100 nx_101 hw
                            obtain ⟨a_104, ci_105, fs_106, er, he, hc, hw⟩ := zo_e hw
                            obtain rfl := List.mem_singleton.mp hc
                            refine zr_callv (zw_runV (As := [.double x_98, .double x_99]) hk hH hz hS hl.1 er hw (cwV 2 hts (lw_V q3260 q3262 qs123 q162 q3263) rfl rfl rfl (by decide +kernel) (z_room (Nat.le_of_ble_eq_true rfl))) he rfl rfl rfl (Nat.le_of_ble_eq_true rfl) dX5_seeks_374 ⟨Nat.le_of_ble_eq_true rfl, Nat.le_of_ble_eq_true rfl⟩) hS (fun hp_102 nx_103 hw H locs hH hz hS => ?_)
                            refine lv_iconst (v := (1 : Int32)) hx hb dX5_seeks_377 (by decide) ?_
                            exact zr_zret hk hr hH hz hS (Or.inr rfl) hw (Nat.le_of_ble_eq_true rfl) (Nat.le_of_ble_eq_true rfl) dX5_seeks_378
                          refine lv_if_eq (tgt := 372) hx hb dX5_seeks_364 (by decide) (fun hc => ?_) (fun hc => ?_)
                          · have hw := hw.1 hc
                            refine lv_dload hx hb dX5_seeks_372 (lv_at hl 9 rfl) ?_
                            exact hJ_374 x_81 x_82 x_83 x_84 x_85 x_86 r_87 x_88 x_84 hp_89 nx_90 _ _ _ hw hl hH hz hS
                          · have hw := hw.2 hc
                            refine lv_dload hx hb dX5_seeks_367 (lv_at hl 8 rfl) ?_
                            refine lv_goto (tgt := 374) hx hb dX5_seeks_369 (by decide) ?_
                            exact hJ_374 x_81 x_82 x_83 x_84 x_85 x_86 r_87 x_88 x_83 hp_89 nx_90 _ _ _ hw hl hH hz hS
                        refine lv_if_eq (tgt := 360) hx hb dX5_seeks_352 (by decide) (fun hc => ?_) (fun hc => ?_)
                        · have hw := hw.1 hc
                          refine lv_dload hx hb dX5_seeks_360 (lv_at hl 8 rfl) ?_
                          exact hJ_362 x_72 x_73 x_74 x_75 x_76 x_78 (some h0) x_73 hp_79 nx_80 _ _ _ hw (lv_sub hl [1, 2, 3, 4, 5, 6, 7, 8, 9, 10, 11, 0] rfl) hH hz hS
                        · have hw := hw.2 hc
                          refine lv_dload hx hb dX5_seeks_355 (lv_at hl 7 rfl) ?_
                          refine lv_goto (tgt := 362) hx hb dX5_seeks_357 (by decide) ?_
                          exact hJ_362 x_72 x_73 x_74 x_75 x_76 x_78 (some h0) x_72 hp_79 nx_80 _ _ _ hw (lv_sub hl [1, 2, 3, 4, 5, 6, 7, 8, 9, 10, 11, 0] rfl) hH hz hS
                      refine lv_if_gt (tgt := 346) hx hb dX5_seeks_339 (by decide) (fun hc => ?_) (fun hc => ?_)
                      · have hw := hw.1 hc
                        refine lv_iconst (v := (0 : Int32)) hx hb dX5_seeks_346 (by decide) ?_
                        exact hJ_347 x_58 x_59 x_60 x_61 x_62 x_63 (0 : Int32) hp_69 nx_70 _ _ _ hw hl hH hz hS
                      · have hw := hw.2 hc
                        refine lv_iconst (v := (1 : Int32)) hx hb dX5_seeks_342 (by decide) ?_
                        refine lv_goto (tgt := 347) hx hb dX5_seeks_343 (by decide) ?_
                        exact hJ_347 x_58 x_59 x_60 x_61 x_62 x_63 (1 : Int32) hp_69 nx_70 _ _ _ hw hl hH hz hS
                    refine lv_icmp_ge (tgt := 322) hx hb dX5_seeks_125 (by decide) (fun hc => ?_) (fun hc => ?_)
                    · have hw := hw.1 hc
                      exact hJ_322 x_49 x_50 x_51 x_52 x_53 x_54 hp_55 nx_56 _ _ _ hw hl hH hz hS
                    · have hw := hw.2 hc
                      refine lv_dload hx hb dX5_seeks_128 (lv_at hl 7 rfl) ?_
                      refine lv_dload hx hb dX5_seeks_130 (lv_at hl 6 rfl) ?_
                      obtain ⟨hne, hw⟩ := hw
                      refine lv_dsub hx hb dX5_seeks_132 hne ?_
                      refine lv_topd (fun x_107 ex_107 => ?_)
                      have hw := hw x_107 ex_107
                      refine lv_dstore (lv' := [(19, .double x_107), (0, va_rf (some h0)), (1, .int x1), (2, .int x2), (3, .double x3), (5, .double x5), (7, .double x7), (9, .double x_49), (11, .double x_50), (13, .double x_51), (15, .double x_52), (17, .int x_53), (18, .int x_54)]) hx hb dX5_seeks_133 hl (by decide) (by first | rfl | simp [List.filter_cons, z_cat, z_catI, z_catJ, z_catF, z_catD]) (fun ls hl => ?_)
                      refine lv_dload hx hb dX5_seeks_135 (lv_at hl 7 rfl) ?_
                      refine lv_dload hx hb dX5_seeks_137 (lv_at hl 0 rfl) ?_
                      refine lv_ldc2d hx hb hown (hts _ q3264) dX5_seeks_139 ?_
                      obtain ⟨hne, hw⟩ := hw
                      refine lv_ddiv hx hb dX5_seeks_142 hne ?_
                      obtain ⟨hne, hw⟩ := hw
                      refine lv_dadd hx hb dX5_seeks_143 hne ?_
                      refine lv_topd (fun x_108 ex_108 => ?_)
                      have hw := hw x_108 ex_108
                      refine lv_dstore (lv' := [(21, .double x_108), (19, .double x_107), (0, va_rf (some h0)), (1, .int x1), (2, .int x2), (3, .double x3), (5, .double x5), (7, .double x7), (9, .double x_49), (11, .double x_50), (13, .double x_51), (15, .double x_52), (17, .int x_53), (18, .int x_54)]) hx hb dX5_seeks_144 hl (by decide) (by first | rfl | simp [List.filter_cons, z_cat, z_catI, z_catJ, z_catF, z_catD]) (fun ls hl => ?_)
                      refine lv_iload hx hb dX5_seeks_146 (lv_at hl 12 rfl) ?_
                      obtain ⟨P_190, hP_190, hw⟩ := hw
                      have hJ_190 : ∀ (x_109 : UInt64) (x_110 : UInt64) (x_111 : UInt64) (x_112 : UInt64) (x_113 : Int32) (x_114 : Int32) (x_115 : UInt64) (x_116 : UInt64) (hp_117 : zHp) (nx_118 : Nat) (H : Heap) (locs : List Loc) (ls : Array Slot), P_190 x_109 x_110 x_111 x_112 x_113 x_114 x_115 x_116 hp_117 nx_118 → lv_has ls 25 [(0, va_rf (some h0)), (1, .int x1), (2, .int x2), (3, .double x3), (5, .double x5), (7, .double x7), (9, .double x_109), (11, .double x_110), (13, .double x_111), (15, .double x_112), (17, .int x_113), (18, .int x_114), (19, .double x_115), (21, .double x_116)] → zHd g hp_117 H → H.size = nx_118 → va_S (zAd g) s.heap H locs → W p l e (zrm (d + 1) 0 0) s m ([.ref h0, .int x1, .int x2, .double x3, .double x5, .double x7] : List Value).toArray below meth c H locs 0 0 (MQ below (zQi g Post) ([.ref h0, .int x1, .int x2, .double x3, .double x5, .double x7] : List Value).toArray s 0 0 (zAd g)) (F0 m 190 ls []) := by
                        intro x_109 x_110 x_111 x_112 x_113 x_114 x_115 x_116 hp_117 nx_118 H locs ls hw hl hH hz hS
                        have hw := hP_190 x_109 x_110 x_111 x_112 x_113 x_114 x_115 x_116 hp_117 nx_118 hw
                        refine lv_dload hx hb dX5_seeks_190 (lv_at hl 13 rfl) ?_
                        refine lv_dload hx hb dX5_seeks_192 (lv_at hl 6 rfl) ?_
                        refine lv_dcmp hx hb dX5_seeks_194 ?_
                        refine lv_if_le (tgt := 322) hx hb dX5_seeks_195 (by decide) (fun hc => ?_) (fun hc => ?_)
                        · have hw := hw.1 hc
                          exact hJ_322 x_109 x_110 x_111 x_112 x_113 x_114 hp_117 nx_118 _ _ _ hw (lv_sub hl [0, 1, 2, 3, 4, 5, 6, 7, 8, 9, 10, 11] rfl) hH hz hS
                        · have hw := hw.2 hc
                          refine lv_dload hx hb dX5_seeks_198 (lv_at hl 13 rfl) ?_
                          refine lv_dload hx hb dX5_seeks_200 (lv_at hl 7 rfl) ?_
                          refine lv_dcmp hx hb dX5_seeks_202 ?_
                          refine lv_if_lt (tgt := 209) hx hb dX5_seeks_203 (by decide) (fun hc => ?_) (fun hc => ?_)
                          · have hw := hw.1 hc
                            refine zr_aload_n (r := some h0) hx hb dX5_seeks_209 rfl (lv_at hl 0 rfl) ?_
                            refine lv_iload_n hx hb dX5_seeks_210 rfl (lv_at hl 1 rfl) ?_
                            refine lv_iload_n hx hb dX5_seeks_211 rfl (lv_at hl 2 rfl) ?_
                            refine lv_dload hx hb dX5_seeks_212 (lv_at hl 13 rfl) ?_
                            obtain ⟨a_181, ci_182, fs_183, er, he, hc, hw⟩ := zo_e hw
                            obtain rfl := List.mem_singleton.mp hc
                            refine zr_calld (zw_runV (As := [.int x1, .int x2, .double x_116]) hk hH hz hS hl.1 er hw (cwV 3 hts (lw_V q3256 q3258 qs122 q162 q3259) rfl rfl rfl (by decide +kernel) (z_room (Nat.le_of_ble_eq_true rfl))) he rfl rfl rfl (Nat.le_of_ble_eq_true rfl) dX5_seeks_214 ⟨Nat.le_of_ble_eq_true rfl, Nat.le_of_ble_eq_true rfl⟩) hS (fun x_121 hp_119 nx_120 hw H locs hH hz hS => ?_)
                            refine lv_dstore (lv' := [(23, .double x_121), (0, va_rf (some h0)), (1, .int x1), (2, .int x2), (3, .double x3), (5, .double x5), (7, .double x7), (9, .double x_109), (11, .double x_110), (13, .double x_111), (15, .double x_112), (17, .int x_113), (18, .int x_114), (19, .double x_115), (21, .double x_116)]) hx hb dX5_seeks_217 hl (by decide) (by first | rfl | simp [List.filter_cons, z_cat, z_catI, z_catJ, z_catF, z_catD]) (fun ls hl => ?_)
                            refine zr_aload_n (r := some h0) hx hb dX5_seeks_219 rfl (lv_at hl 1 rfl) ?_
                            obtain ⟨a_122, ci_123, fs_124, x_125, er, he, hc, hv, hw⟩ := zgI_e hw
                            refine zw_get hk hH er he hv (fk_X5_514 hc) dX5_seeks_220 ?_
                            refine lv_if_eq (tgt := 228) hx hb dX5_seeks_223 (by decide) (fun hc => ?_) (fun hc => ?_)
                            · have hw := hw.1 hc
                              refine lv_dload hx hb dX5_seeks_228 (lv_at hl 0 rfl) ?_
                              refine lv_dload hx hb dX5_seeks_230 (lv_at hl 6 rfl) ?_
                              refine lv_dcmp hx hb dX5_seeks_232 ?_
                              refine lv_if_ne (tgt := 246) hx hb dX5_seeks_233 (by decide) (fun hc => ?_) (fun hc => ?_)
                              · have hw := hw.2 hc
                                refine lv_dload hx hb dX5_seeks_246 (lv_at hl 0 rfl) ?_
                                refine lv_dload hx hb dX5_seeks_248 (lv_at hl 6 rfl) ?_
                                refine lv_dcmp hx hb dX5_seeks_250 ?_
                                obtain ⟨P_259, hP_259, hw⟩ := hw
                                have hJ_259 : ∀ (x_126 : UInt64) (x_127 : UInt64) (x_128 : UInt64) (x_129 : UInt64) (x_130 : Int32) (x_131 : Int32) (x_132 : UInt64) (x_133 : UInt64) (x_134 : UInt64) (x_135 : Int32) (hp_136 : zHp) (nx_137 : Nat) (H : Heap) (locs : List Loc) (ls : Array Slot), P_259 x_126 x_127 x_128 x_129 x_130 x_131 x_132 x_133 x_134 x_135 hp_136 nx_137 → lv_has ls 25 [(0, va_rf (some h0)), (1, .int x1), (2, .int x2), (3, .double x3), (5, .double x5), (7, .double x7), (9, .double x_126), (11, .double x_127), (13, .double x_128), (15, .double x_129), (17, .int x_130), (18, .int x_131), (19, .double x_132), (21, .double x_133), (23, .double x_134)] → zHd g hp_136 H → H.size = nx_137 → va_S (zAd g) s.heap H locs → W p l e (zrm (d + 1) 0 0) s m ([.ref h0, .int x1, .int x2, .double x3, .double x5, .double x7] : List Value).toArray below meth c H locs 0 0 (MQ below (zQi g Post) ([.ref h0, .int x1, .int x2, .double x3, .double x5, .double x7] : List Value).toArray s 0 0 (zAd g)) (F0 m 259 ls [.int x_135]) := by
                                  intro x_126 x_127 x_128 x_129 x_130 x_131 x_132 x_133 x_134 x_135 hp_136 nx_137 H locs ls hw hl hH hz hS
                                  have hw := hP_259 x_126 x_127 x_128 x_129 x_130 x_131 x_132 x_133 x_134 x_135 hp_136 nx_137 hw
                                  refine lv_dload hx hb dX5_seeks_259 (lv_at hl 8 rfl) ?_
                                  refine lv_dload hx hb dX5_seeks_261 (lv_at hl 5 rfl) ?_
                                  refine lv_dcmp hx hb dX5_seeks_263 ?_
                                  obtain ⟨P_272, hP_272, hw⟩ := hw
                                  have hJ_272 : ∀ (x_138 : UInt64) (x_139 : UInt64) (x_140 : UInt64) (x_141 : UInt64) (x_142 : Int32) (x_143 : Int32) (x_144 : UInt64) (x_145 : UInt64) (x_146 : UInt64) (x_147 : Int32) (x_148 : Int32) (hp_149 : zHp) (nx_150 : Nat) (H : Heap) (locs : List Loc) (ls : Array Slot), P_272 x_138 x_139 x_140 x_141 x_142 x_143 x_144 x_145 x_146 x_147 x_148 hp_149 nx_150 → lv_has ls 25 [(0, va_rf (some h0)), (1, .int x1), (2, .int x2), (3, .double x3), (5, .double x5), (7, .double x7), (9, .double x_138), (11, .double x_139), (13, .double x_140), (15, .double x_141), (17, .int x_142), (18, .int x_143), (19, .double x_144), (21, .double x_145), (23, .double x_146)] → zHd g hp_149 H → H.size = nx_150 → va_S (zAd g) s.heap H locs → W p l e (zrm (d + 1) 0 0) s m ([.ref h0, .int x1, .int x2, .double x3, .double x5, .double x7] : List Value).toArray below meth c H locs 0 0 (MQ below (zQi g Post) ([.ref h0, .int x1, .int x2, .double x3, .double x5, .double x7] : List Value).toArray s 0 0 (zAd g)) (F0 m 272 ls [.int x_148, .int x_147]) := by
                                    intro x_138 x_139 x_140 x_141 x_142 x_143 x_144 x_145 x_146 x_147 x_148 hp_149 nx_150 H locs ls hw hl hH hz hS
                                    have hw := hP_272 x_138 x_139 x_140 x_141 x_142 x_143 x_144 x_145 x_146 x_147 x_148 hp_149 nx_150 hw
                                    obtain ⟨P_294, hP_294, hw⟩ := hw
                                    have hJ_294 : ∀ (x_151 : UInt64) (x_152 : UInt64) (x_153 : UInt64) (x_154 : UInt64) (x_155 : Int32) (x_156 : Int32) (x_157 : UInt64) (x_158 : UInt64) (x_159 : UInt64) (hp_160 : zHp) (nx_161 : Nat) (H : Heap) (locs : List Loc) (ls : Array Slot), P_294 x_151 x_152 x_153 x_154 x_155 x_156 x_157 x_158 x_159 hp_160 nx_161 → lv_has ls 25 [(0, va_rf (some h0)), (1, .int x1), (2, .int x2), (3, .double x3), (5, .double x5), (7, .double x7), (9, .double x_151), (11, .double x_152), (13, .double x_153), (15, .double x_154), (17, .int x_155), (18, .int x_156), (19, .double x_157), (21, .double x_158), (23, .double x_159)] → zHd g hp_160 H → H.size = nx_161 → va_S (zAd g) s.heap H locs → W p l e (zrm (d + 1) 0 0) s m ([.ref h0, .int x1, .int x2, .double x3, .double x5, .double x7] : List Value).toArray below meth c H locs 0 0 (MQ below (zQi g Post) ([.ref h0, .int x1, .int x2, .double x3, .double x5, .double x7] : List Value).toArray s 0 0 (zAd g)) (F0 m 294 ls []) := by
                                      intro x_151 x_152 x_153 x_154 x_155 x_156 x_157 x_158 x_159 hp_160 nx_161 H locs ls hw hl hH hz hS
                                      have hw := hP_294 x_151 x_152 x_153 x_154 x_155 x_156 x_157 x_158 x_159 hp_160 nx_161 hw
                                      refine lv_dload hx hb dX5_seeks_294 (lv_at hl 7 rfl) ?_
                                      refine lv_dload hx hb dX5_seeks_296 (lv_at hl 6 rfl) ?_
                                      obtain ⟨hne, hw⟩ := hw
                                      refine lv_dsub hx hb dX5_seeks_298 hne ?_
                                      refine lv_dload hx hb dX5_seeks_299 (lv_at hl 12 rfl) ?_
                                      refine lv_ldc2d hx hb hown (hts _ q3264) dX5_seeks_301 ?_
                                      obtain ⟨hne, hw⟩ := hw
                                      refine lv_ddiv hx hb dX5_seeks_304 hne ?_
                                      refine lv_dcmp hx hb dX5_seeks_305 ?_
                                      obtain ⟨P_314, hP_314, hw⟩ := hw
                                      have hJ_314 : ∀ (x_162 : UInt64) (x_163 : UInt64) (x_164 : UInt64) (x_165 : UInt64) (x_166 : Int32) (x_167 : Int32) (x_168 : UInt64) (x_169 : UInt64) (x_170 : UInt64) (x_171 : Int32) (hp_172 : zHp) (nx_173 : Nat) (H : Heap) (locs : List Loc) (ls : Array Slot), P_314 x_162 x_163 x_164 x_165 x_166 x_167 x_168 x_169 x_170 x_171 hp_172 nx_173 → lv_has ls 25 [(0, va_rf (some h0)), (1, .int x1), (2, .int x2), (3, .double x3), (5, .double x5), (7, .double x7), (9, .double x_162), (11, .double x_163), (13, .double x_164), (15, .double x_165), (17, .int x_166), (18, .int x_167), (19, .double x_168), (21, .double x_169), (23, .double x_170)] → zHd g hp_172 H → H.size = nx_173 → va_S (zAd g) s.heap H locs → W p l e (zrm (d + 1) 0 0) s m ([.ref h0, .int x1, .int x2, .double x3, .double x5, .double x7] : List Value).toArray below meth c H locs 0 0 (MQ below (zQi g Post) ([.ref h0, .int x1, .int x2, .double x3, .double x5, .double x7] : List Value).toArray s 0 0 (zAd g)) (F0 m 314 ls [.int x_171]) := by
                                        intro x_162 x_163 x_164 x_165 x_166 x_167 x_168 x_169 x_170 x_171 hp_172 nx_173 H locs ls hw hl hH hz hS
                                        have hw := hP_314 x_162 x_163 x_164 x_165 x_166 x_167 x_168 x_169 x_170 x_171 hp_172 nx_173 hw
                                        refine lv_istore (lv' := [(17, .int x_171), (0, va_rf (some h0)), (1, .int x1), (2, .int x2), (3, .double x3), (5, .double x5), (7, .double x7), (9, .double x_162), (11, .double x_163), (13, .double x_164), (15, .double x_165), (18, .int x_167), (19, .double x_168), (21, .double x_169), (23, .double x_170)]) hx hb dX5_seeks_314 hl (by decide) (by first | rfl | simp [List.filter_cons, z_cat, z_catI, z_catJ, z_catF, z_catD]) (fun ls hl => ?_)
                                        obtain ⟨x_174, ex_174⟩ : ∃ y : Int32, y = x_167 + (1 : Int32) := ⟨_, rfl⟩
                                        have hw := hw x_174 ex_174
                                        refine lv_iinc (v := x_174) (lv' := [(18, .int x_174), (17, .int x_171), (0, va_rf (some h0)), (1, .int x1), (2, .int x2), (3, .double x3), (5, .double x5), (7, .double x7), (9, .double x_162), (11, .double x_163), (13, .double x_164), (15, .double x_165), (19, .double x_168), (21, .double x_169), (23, .double x_170)]) hx hb dX5_seeks_316 hl (k := 11) rfl (by rw [ex_174]; rfl) (by decide) (by first | rfl | simp [List.filter_cons, z_cat, z_catI, z_catJ, z_catF, z_catD]) (fun ls hl => ?_)
                                        refine lv_goto (tgt := 121) hx hb dX5_seeks_319 (by decide) ?_
                                        obtain ⟨k_175, hlt, hw⟩ := hw
                                        exact ih_121 k_175 hlt x_162 x_163 x_164 x_165 x_171 x_174 hp_172 nx_173 _ _ _ hw (lv_sub hl [2, 3, 4, 5, 6, 7, 8, 9, 10, 11, 1, 0] rfl) hH hz hS
                                      refine lv_if_gt (tgt := 313) hx hb dX5_seeks_306 (by decide) (fun hc => ?_) (fun hc => ?_)
                                      · have hw := hw.1 hc
                                        refine lv_iconst (v := (0 : Int32)) hx hb dX5_seeks_313 (by decide) ?_
                                        exact hJ_314 x_151 x_152 x_153 x_154 x_155 x_156 x_157 x_158 x_159 (0 : Int32) hp_160 nx_161 _ _ _ hw hl hH hz hS
                                      · have hw := hw.2 hc
                                        refine lv_iconst (v := (1 : Int32)) hx hb dX5_seeks_309 (by decide) ?_
                                        refine lv_goto (tgt := 314) hx hb dX5_seeks_310 (by decide) ?_
                                        exact hJ_314 x_151 x_152 x_153 x_154 x_155 x_156 x_157 x_158 x_159 (1 : Int32) hp_160 nx_161 _ _ _ hw hl hH hz hS
                                    refine lv_icmp_ne (tgt := 286) hx hb dX5_seeks_272 (by decide) (fun hc => ?_) (fun hc => ?_)
                                    · have hw := hw.2 hc
                                      refine lv_dload hx hb dX5_seeks_286 (lv_at hl 13 rfl) ?_
                                      refine lv_dstore (lv' := [(11, .double x_145), (0, va_rf (some h0)), (1, .int x1), (2, .int x2), (3, .double x3), (5, .double x5), (7, .double x7), (9, .double x_138), (13, .double x_140), (15, .double x_141), (17, .int x_142), (18, .int x_143), (19, .double x_144), (21, .double x_145), (23, .double x_146)]) hx hb dX5_seeks_288 hl (by decide) (by first | rfl | simp [List.filter_cons, z_cat, z_catI, z_catJ, z_catF, z_catD]) (fun ls hl => ?_)
                                      refine lv_dload hx hb dX5_seeks_290 (lv_at hl 14 rfl) ?_
                                      refine lv_dstore (lv' := [(15, .double x_146), (11, .double x_145), (0, va_rf (some h0)), (1, .int x1), (2, .int x2), (3, .double x3), (5, .double x5), (7, .double x7), (9, .double x_138), (13, .double x_140), (17, .int x_142), (18, .int x_143), (19, .double x_144), (21, .double x_145), (23, .double x_146)]) hx hb dX5_seeks_292 hl (by decide) (by first | rfl | simp [List.filter_cons, z_cat, z_catI, z_catJ, z_catF, z_catD]) (fun ls hl => ?_)
                                      exact hJ_294 x_138 x_145 x_140 x_146 x_142 x_143 x_144 x_145 x_146 hp_149 nx_150 _ _ _ hw (lv_sub hl [2, 3, 4, 5, 6, 7, 8, 1, 9, 0, 10, 11, 12, 13, 14] rfl) hH hz hS
                                    · have hw := hw.1 hc
                                      refine lv_dload hx hb dX5_seeks_275 (lv_at hl 13 rfl) ?_
                                      refine lv_dstore (lv' := [(9, .double x_145), (0, va_rf (some h0)), (1, .int x1), (2, .int x2), (3, .double x3), (5, .double x5), (7, .double x7), (11, .double x_139), (13, .double x_140), (15, .double x_141), (17, .int x_142), (18, .int x_143), (19, .double x_144), (21, .double x_145), (23, .double x_146)]) hx hb dX5_seeks_277 hl (by decide) (by first | rfl | simp [List.filter_cons, z_cat, z_catI, z_catJ, z_catF, z_catD]) (fun ls hl => ?_)
                                      refine lv_dload hx hb dX5_seeks_279 (lv_at hl 14 rfl) ?_
                                      refine lv_dstore (lv' := [(13, .double x_146), (9, .double x_145), (0, va_rf (some h0)), (1, .int x1), (2, .int x2), (3, .double x3), (5, .double x5), (7, .double x7), (11, .double x_139), (15, .double x_141), (17, .int x_142), (18, .int x_143), (19, .double x_144), (21, .double x_145), (23, .double x_146)]) hx hb dX5_seeks_281 hl (by decide) (by first | rfl | simp [List.filter_cons, z_cat, z_catI, z_catJ, z_catF, z_catD]) (fun ls hl => ?_)
                                      refine lv_goto (tgt := 294) hx hb dX5_seeks_283 (by decide) ?_
                                      exact hJ_294 x_145 x_139 x_146 x_141 x_142 x_143 x_144 x_145 x_146 hp_149 nx_150 _ _ _ hw (lv_sub hl [2, 3, 4, 5, 6, 7, 1, 8, 0, 9, 10, 11, 12, 13, 14] rfl) hH hz hS
                                  refine lv_if_ge (tgt := 271) hx hb dX5_seeks_264 (by decide) (fun hc => ?_) (fun hc => ?_)
                                  · have hw := hw.1 hc
                                    refine lv_iconst (v := (0 : Int32)) hx hb dX5_seeks_271 (by decide) ?_
                                    exact hJ_272 x_126 x_127 x_128 x_129 x_130 x_131 x_132 x_133 x_134 x_135 (0 : Int32) hp_136 nx_137 _ _ _ hw hl hH hz hS
                                  · have hw := hw.2 hc
                                    refine lv_iconst (v := (1 : Int32)) hx hb dX5_seeks_267 (by decide) ?_
                                    refine lv_goto (tgt := 272) hx hb dX5_seeks_268 (by decide) ?_
                                    exact hJ_272 x_126 x_127 x_128 x_129 x_130 x_131 x_132 x_133 x_134 x_135 (1 : Int32) hp_136 nx_137 _ _ _ hw hl hH hz hS
                                refine lv_if_ge (tgt := 258) hx hb dX5_seeks_251 (by decide) (fun hc => ?_) (fun hc => ?_)
                                · have hw := hw.1 hc
                                  refine lv_iconst (v := (0 : Int32)) hx hb dX5_seeks_258 (by decide) ?_
                                  exact hJ_259 x_109 x_110 x_111 x_112 x_113 x_114 x_115 x_116 x_121 (0 : Int32) hp_119 nx_120 _ _ _ hw (lv_sub hl [1, 2, 3, 4, 5, 6, 7, 8, 9, 10, 11, 12, 13, 14, 0] rfl) hH hz hS
                                · have hw := hw.2 hc
                                  refine lv_iconst (v := (1 : Int32)) hx hb dX5_seeks_254 (by decide) ?_
                                  refine lv_goto (tgt := 259) hx hb dX5_seeks_255 (by decide) ?_
                                  exact hJ_259 x_109 x_110 x_111 x_112 x_113 x_114 x_115 x_116 x_121 (1 : Int32) hp_119 nx_120 _ _ _ hw (lv_sub hl [1, 2, 3, 4, 5, 6, 7, 8, 9, 10, 11, 12, 13, 14, 0] rfl) hH hz hS
                              · have hw := hw.1 hc
                                refine zr_aload_n (r := some h0) hx hb dX5_seeks_236 rfl (lv_at hl 1 rfl) ?_
                                refine lv_dload hx hb dX5_seeks_237 (lv_at hl 14 rfl) ?_
                                refine lv_dload hx hb dX5_seeks_239 (lv_at hl 0 rfl) ?_
                                obtain ⟨a_178, ci_179, fs_180, er, he, hc, hw⟩ := zo_e hw
                                obtain rfl := List.mem_singleton.mp hc
                                refine zr_callv (zw_runV (As := [.double x_116, .double x_121]) hk hH hz hS hl.1 er hw (cwV 2 hts (lw_V q3260 q3262 qs123 q162 q3263) rfl rfl rfl (by decide +kernel) (z_room (Nat.le_of_ble_eq_true rfl))) he rfl rfl rfl (Nat.le_of_ble_eq_true rfl) dX5_seeks_241 ⟨Nat.le_of_ble_eq_true rfl, Nat.le_of_ble_eq_true rfl⟩) hS (fun hp_176 nx_177 hw H locs hH hz hS => ?_)
                                refine lv_iconst (v := (1 : Int32)) hx hb dX5_seeks_244 (by decide) ?_
                                exact zr_zret hk hr hH hz hS (Or.inr rfl) hw (Nat.le_of_ble_eq_true rfl) (Nat.le_of_ble_eq_true rfl) dX5_seeks_245
                            · have hw := hw.2 hc
                              refine lv_iconst (v := (0 : Int32)) hx hb dX5_seeks_226 (by decide) ?_
                              exact zr_zret hk hr hH hz hS (Or.inl rfl) hw (Nat.le_of_ble_eq_true rfl) (Nat.le_of_ble_eq_true rfl) dX5_seeks_227
                          · have hw := hw.2 hc
                            refine lv_goto (tgt := 322) hx hb dX5_seeks_206 (by decide) ?_
                            exact hJ_322 x_109 x_110 x_111 x_112 x_113 x_114 hp_117 nx_118 _ _ _ hw (lv_sub hl [0, 1, 2, 3, 4, 5, 6, 7, 8, 9, 10, 11] rfl) hH hz hS
                      refine lv_if_eq (tgt := 190) hx hb dX5_seeks_148 (by decide) (fun hc => ?_) (fun hc => ?_)
                      · have hw := hw.1 hc
                        exact hJ_190 x_49 x_50 x_51 x_52 x_53 x_54 x_107 x_108 hp_55 nx_56 _ _ _ hw (lv_sub hl [2, 3, 4, 5, 6, 7, 8, 9, 10, 11, 12, 13, 1, 0] rfl) hH hz hS
                      · have hw := hw.2 hc
                        refine lv_dload hx hb dX5_seeks_151 (lv_at hl 8 rfl) ?_
                        refine lv_dload hx hb dX5_seeks_153 (lv_at hl 7 rfl) ?_
                        refine lv_dload hx hb dX5_seeks_155 (lv_at hl 10 rfl) ?_
                        obtain ⟨hne, hw⟩ := hw
                        refine lv_dsub hx hb dX5_seeks_157 hne ?_
                        refine lv_dload hx hb dX5_seeks_158 (lv_at hl 1 rfl) ?_
                        obtain ⟨hne, hw⟩ := hw
                        refine lv_dmul hx hb dX5_seeks_160 hne ?_
                        refine lv_dload hx hb dX5_seeks_161 (lv_at hl 11 rfl) ?_
                        refine lv_dload hx hb dX5_seeks_163 (lv_at hl 10 rfl) ?_
                        obtain ⟨hne, hw⟩ := hw
                        refine lv_dsub hx hb dX5_seeks_165 hne ?_
                        obtain ⟨hne, hw⟩ := hw
                        refine lv_ddiv hx hb dX5_seeks_166 hne ?_
                        obtain ⟨hne, hw⟩ := hw
                        refine lv_dadd hx hb dX5_seeks_167 hne ?_
                        refine lv_topd (fun x_184 ex_184 => ?_)
                        have hw := hw x_184 ex_184
                        refine lv_dstore (lv' := [(23, .double x_184), (21, .double x_108), (19, .double x_107), (0, va_rf (some h0)), (1, .int x1), (2, .int x2), (3, .double x3), (5, .double x5), (7, .double x7), (9, .double x_49), (11, .double x_50), (13, .double x_51), (15, .double x_52), (17, .int x_53), (18, .int x_54)]) hx hb dX5_seeks_168 hl (by decide) (by first | rfl | simp [List.filter_cons, z_cat, z_catI, z_catJ, z_catF, z_catD]) (fun ls hl => ?_)
                        refine lv_dload hx hb dX5_seeks_170 (lv_at hl 0 rfl) ?_
                        refine lv_dload hx hb dX5_seeks_172 (lv_at hl 9 rfl) ?_
                        refine lv_dcmp hx hb dX5_seeks_174 ?_
                        refine lv_if_le (tgt := 190) hx hb dX5_seeks_175 (by decide) (fun hc => ?_) (fun hc => ?_)
                        · have hw := hw.1 hc
                          exact hJ_190 x_49 x_50 x_51 x_52 x_53 x_54 x_107 x_108 hp_55 nx_56 _ _ _ hw (lv_sub hl [3, 4, 5, 6, 7, 8, 9, 10, 11, 12, 13, 14, 2, 1] rfl) hH hz hS
                        · have hw := hw.2 hc
                          refine lv_dload hx hb dX5_seeks_178 (lv_at hl 0 rfl) ?_
                          refine lv_dload hx hb dX5_seeks_180 (lv_at hl 10 rfl) ?_
                          refine lv_dcmp hx hb dX5_seeks_182 ?_
                          refine lv_if_ge (tgt := 190) hx hb dX5_seeks_183 (by decide) (fun hc => ?_) (fun hc => ?_)
                          · have hw := hw.1 hc
                            exact hJ_190 x_49 x_50 x_51 x_52 x_53 x_54 x_107 x_108 hp_55 nx_56 _ _ _ hw (lv_sub hl [3, 4, 5, 6, 7, 8, 9, 10, 11, 12, 13, 14, 2, 1] rfl) hH hz hS
                          · have hw := hw.2 hc
                            refine lv_dload hx hb dX5_seeks_186 (lv_at hl 0 rfl) ?_
                            refine lv_dstore (lv' := [(21, .double x_184), (23, .double x_184), (19, .double x_107), (0, va_rf (some h0)), (1, .int x1), (2, .int x2), (3, .double x3), (5, .double x5), (7, .double x7), (9, .double x_49), (11, .double x_50), (13, .double x_51), (15, .double x_52), (17, .int x_53), (18, .int x_54)]) hx hb dX5_seeks_188 hl (by decide) (by first | rfl | simp [List.filter_cons, z_cat, z_catI, z_catJ, z_catF, z_catD]) (fun ls hl => ?_)
                            exact hJ_190 x_49 x_50 x_51 x_52 x_53 x_54 x_107 x_184 hp_55 nx_56 _ _ _ hw (lv_sub hl [3, 4, 5, 6, 7, 8, 9, 10, 11, 12, 13, 14, 2, 0] rfl) hH hz hS
                exact hL_121 n_185 x_41 x_42 x_43 x_44 (0 : Int32) (0 : Int32) hp_47 nx_48 _ _ _ hI (lv_sub hl [2, 3, 4, 5, 6, 7, 8, 9, 10, 11, 1, 0] rfl) hH hz hS
              · have hw := hw.1 hc
                refine lv_iconst (v := (0 : Int32)) hx hb dX5_seeks_113 (by decide) ?_
                exact zr_zret hk hr hH hz hS (Or.inl rfl) hw (Nat.le_of_ble_eq_true rfl) (Nat.le_of_ble_eq_true rfl) dX5_seeks_114
            refine lv_if_ge (tgt := 109) hx hb dX5_seeks_102 (by decide) (fun hc => ?_) (fun hc => ?_)
            · have hw := hw.1 hc
              refine lv_iconst (v := (0 : Int32)) hx hb dX5_seeks_109 (by decide) ?_
              exact hJ_110 x_34 x_35 x_36 x_37 x_38 (0 : Int32) hp_39 nx_40 _ _ _ hw hl hH hz hS
            · have hw := hw.2 hc
              refine lv_iconst (v := (1 : Int32)) hx hb dX5_seeks_105 (by decide) ?_
              refine lv_goto (tgt := 110) hx hb dX5_seeks_106 (by decide) ?_
              exact hJ_110 x_34 x_35 x_36 x_37 x_38 (1 : Int32) hp_39 nx_40 _ _ _ hw hl hH hz hS
          refine lv_if_ge (tgt := 96) hx hb dX5_seeks_89 (by decide) (fun hc => ?_) (fun hc => ?_)
          · have hw := hw.1 hc
            refine lv_iconst (v := (0 : Int32)) hx hb dX5_seeks_96 (by decide) ?_
            exact hJ_97 x3 x5 x_3 x_10 (0 : Int32) hp_8 nx_9 _ _ _ hw (lv_sub hl [4, 5, 6, 7, 8, 9, 3, 2, 1, 0] rfl) hH hz hS
          · have hw := hw.2 hc
            refine lv_iconst (v := (1 : Int32)) hx hb dX5_seeks_92 (by decide) ?_
            refine lv_goto (tgt := 97) hx hb dX5_seeks_93 (by decide) ?_
            exact hJ_97 x3 x5 x_3 x_10 (1 : Int32) hp_8 nx_9 _ _ _ hw (lv_sub hl [4, 5, 6, 7, 8, 9, 3, 2, 1, 0] rfl) hH hz hS
        · have hw := hw.1 hc
          exact hJ_61 x3 x5 x_3 x_10 hp_8 nx_9 _ _ _ hw (lv_sub hl [4, 5, 6, 7, 8, 9, 3, 2, 1, 0] rfl) hH hz hS
    · have hw := hw.2 hc
      refine lv_iconst (v := (0 : Int32)) hx hb dX5_seeks_43 (by decide) ?_
      exact zr_zret hk hr hH hz hS (Or.inl rfl) hw (Nat.le_of_ble_eq_true rfl) (Nat.le_of_ble_eq_true rfl) dX5_seeks_44
  · have hw := hw.2 hc
    refine lv_iconst (v := (0 : Int32)) hx hb dX5_seeks_24 (by decide) ?_
    exact zr_zret hk hr hH hz hS (Or.inl rfl) hw (Nat.le_of_ble_eq_true rfl) (Nat.le_of_ble_eq_true rfl) dX5_seeks_25
def wp_X5_f (l : Launch) (g : zG) (d : Nat) (h0 : Nat) (x1 : Int32) (x2 : Int32) (x3 : UInt64) (hp : zHp) (nx : Nat) (Post : UInt64 → zHp → Nat → Prop) : Prop :=
  (zgI hp (some h0) [5] 51 fun x_4 =>
  (zpt g hp (some h0) [5] 51 (.int (x_4 + (1 : Int32))) fun hp_8 =>
  (zo hp_8 (some h0) [5] fun a_32 ci_33 fs_34 => zMt l g yX5_valueBy cX5_valueBy 10 (some .double) d 0 0 (.ref a_32 :: [.int x1, .double x3, .int x2]) hp_8 nx (zQd g fun x_11 hp_9 nx_10 =>
  (zgI hp_9 (some h0) [5] 52 fun x_15 =>
  (zo hp_9 (some h0) [5] fun a_29 ci_30 fs_31 => zMt l g yX5_errorOf cX5_errorOf 2 (some .int) d 0 0 (.ref a_29 :: [.int x2]) hp_9 nx_10 (zQi g fun x_18 hp_16 nx_17 =>
  (∃ P_37 : UInt64 → (Option Nat) → Int32 → Int32 → zHp → Nat → Prop, (∀ (x_19 : UInt64) (r_20 : Option Nat) (x_21 : Int32) (x_22 : Int32) (hp_23 : zHp) (nx_24 : Nat), P_37 x_19 r_20 x_21 x_22 hp_23 nx_24 →
  (((x_21 ||| x_22) = 0 ∨ (x_21 ||| x_22) = 1) ∧ zpt g hp_23 r_20 [5] 52 (.int (x_21 ||| x_22)) fun hp_28 =>
  (Post x_19 hp_28 nx_24))) ∧
  ((x_18 = 0 →
  P_37 x_11 (some h0) x_15 (0 : Int32) hp_16 nx_17) ∧
  (¬ x_18 = 0 →
  P_37 x_11 (some h0) x_15 (1 : Int32) hp_16 nx_17))))))))))
set_option maxHeartbeats 40000000 in
theorem met_X5_f {l : Launch} {g : zG} {d : Nat} {h0 : Nat} {x1 : Int32} {x2 : Int32} {x3 : UInt64} {hp : zHp} {nx : Nat} {Post : UInt64 → zHp → Nat → Prop} (hw : wp_X5_f l g d h0 x1 x2 x3 hp nx Post) : zMt l g yX5_f cX5_f 7 (some .double) (d + 1) 0 0 [.ref h0, .int x1, .int x2, .double x3] hp nx (zQd g Post) := by
  refine z_start (by decide) (Nat.le_of_ble_eq_true rfl) ?_
  intro p e s m below meth c hk hr hin hH hz ls hl
  have hx := hk.1.1
  have hb := hk.1.2.1
  have hown := hk.1.2.2.2.1
  have hts := hk.1.2.2.2.2
  have hS : va_S (zAd g) s.heap s.heap [] := va_S.rf
  have hl : lv_has ls 7 [(0, va_rf (some h0)), (1, .int x1), (2, .int x2), (3, .double x3)] := hl
  unfold wp_X5_f at hw
  refine zr_aload_n (r := some h0) hx hb dX5_f_0 rfl (lv_at hl 0 rfl) ?_
  refine lv_dup hx hb dX5_f_1 (z_cat _) ?_
  obtain ⟨a_1, ci_2, fs_3, x_4, er, he, hc, hv, hw⟩ := zgI_e hw
  refine zw_get hk hH er he hv (fk_X5_511 hc) dX5_f_2 ?_
  refine lv_iconst (v := (1 : Int32)) hx hb dX5_f_5 (by decide) ?_
  refine lv_iadd hx hb dX5_f_6 ?_
  obtain ⟨a_5, ci_6, fs_7, hp_8, er, he, hc, hA, hkl, eh, hw⟩ := zpt_e hw
  refine zw_put hk hH hz hS er he hA hkl eh (fp_X5_511 hc) rfl rfl dX5_f_7 (fun H locs hH hz hS => ?_)
  refine zr_aload_n (r := some h0) hx hb dX5_f_10 rfl (lv_at hl 0 rfl) ?_
  refine lv_iload_n hx hb dX5_f_11 rfl (lv_at hl 1 rfl) ?_
  refine lv_dload_n hx hb dX5_f_12 rfl (lv_at hl 3 rfl) ?_
  refine lv_iload_n hx hb dX5_f_13 rfl (lv_at hl 2 rfl) ?_
  obtain ⟨a_32, ci_33, fs_34, er, he, hc, hw⟩ := zo_e hw
  obtain rfl := List.mem_singleton.mp hc
  refine zr_calld (zw_runV (As := [.int x1, .double x3, .int x2]) hk hH hz hS hl.1 er hw (cwV 3 hts (lw_V q3059 q3061 qs92 q162 q3062) rfl rfl rfl (by decide +kernel) (z_room (Nat.le_of_ble_eq_true rfl))) he rfl rfl rfl (Nat.le_of_ble_eq_true rfl) dX5_f_14 ⟨Nat.le_of_ble_eq_true rfl, Nat.le_of_ble_eq_true rfl⟩) hS (fun x_11 hp_9 nx_10 hw H locs hH hz hS => ?_)
  refine lv_dstore (lv' := [(5, .double x_11), (0, va_rf (some h0)), (1, .int x1), (2, .int x2), (3, .double x3)]) hx hb dX5_f_17 hl (by decide) (by first | rfl | simp [List.filter_cons, z_cat, z_catI, z_catJ, z_catF, z_catD]) (fun ls hl => ?_)
  refine zr_aload_n (r := some h0) hx hb dX5_f_19 rfl (lv_at hl 1 rfl) ?_
  refine lv_dup hx hb dX5_f_20 (z_cat _) ?_
  obtain ⟨a_12, ci_13, fs_14, x_15, er, he, hc, hv, hw⟩ := zgI_e hw
  refine zw_get hk hH er he hv (fk_X5_514 hc) dX5_f_21 ?_
  refine zr_aload_n (r := some h0) hx hb dX5_f_24 rfl (lv_at hl 1 rfl) ?_
  refine lv_iload_n hx hb dX5_f_25 rfl (lv_at hl 3 rfl) ?_
  obtain ⟨a_29, ci_30, fs_31, er, he, hc, hw⟩ := zo_e hw
  obtain rfl := List.mem_singleton.mp hc
  refine zr_calli (zw_runV (As := [.int x2]) hk hH hz hS hl.1 er hw (cwV 1 hts (lw_V q3042 q3044 qs91 q162 q3045) rfl rfl rfl (by decide +kernel) (z_room (Nat.le_of_ble_eq_true rfl))) he rfl rfl rfl (by simp only [List.map_cons, List.map_nil, z_cat]; exact Nat.le_of_ble_eq_true rfl) dX5_f_26 ⟨Nat.le_of_ble_eq_true rfl, Nat.le_of_ble_eq_true rfl⟩) hS (fun x_18 hp_16 nx_17 hw H locs hH hz hS => ?_)
  obtain ⟨P_37, hP_37, hw⟩ := hw
  have hJ_37 : ∀ (x_19 : UInt64) (r_20 : Option Nat) (x_21 : Int32) (x_22 : Int32) (hp_23 : zHp) (nx_24 : Nat) (H : Heap) (locs : List Loc) (ls : Array Slot), P_37 x_19 r_20 x_21 x_22 hp_23 nx_24 → lv_has ls 7 [(0, va_rf (some h0)), (1, .int x1), (2, .int x2), (3, .double x3), (5, .double x_19)] → zHd g hp_23 H → H.size = nx_24 → va_S (zAd g) s.heap H locs → W p l e (zrm (d + 1) 0 0) s m ([.ref h0, .int x1, .int x2, .double x3] : List Value).toArray below meth c H locs 0 0 (MQ below (zQd g Post) ([.ref h0, .int x1, .int x2, .double x3] : List Value).toArray s 0 0 (zAd g)) (F0 m 37 ls [.int x_22, .int x_21, va_rf r_20]) := by
    intro x_19 r_20 x_21 x_22 hp_23 nx_24 H locs ls hw hl hH hz hS
    have hw := hP_37 x_19 r_20 x_21 x_22 hp_23 nx_24 hw
    refine lv_ior hx hb dX5_f_37 ?_
    obtain ⟨hbo, hw⟩ := hw
    obtain ⟨a_25, ci_26, fs_27, hp_28, er, he, hc, hA, hkl, eh, hw⟩ := zpt_e hw
    refine zw_put hk hH hz hS er he hA hkl eh (fp_X5_514 hc) (z_nb hbo) (z_fb hbo) dX5_f_38 (fun H locs hH hz hS => ?_)
    refine lv_dload hx hb dX5_f_41 (lv_at hl 4 rfl) ?_
    exact zr_dret hk hr hH hz hS hw (Nat.le_of_ble_eq_true rfl) (Nat.le_of_ble_eq_true rfl) dX5_f_43
  refine lv_if_eq (tgt := 36) hx hb dX5_f_29 (by decide) (fun hc => ?_) (fun hc => ?_)
  · have hw := hw.1 hc
    refine lv_iconst (v := (0 : Int32)) hx hb dX5_f_36 (by decide) ?_
    exact hJ_37 x_11 (some h0) x_15 (0 : Int32) hp_16 nx_17 _ _ _ hw (lv_sub hl [1, 2, 3, 4, 0] rfl) hH hz hS
  · have hw := hw.2 hc
    refine lv_iconst (v := (1 : Int32)) hx hb dX5_f_32 (by decide) ?_
    refine lv_goto (tgt := 37) hx hb dX5_f_33 (by decide) ?_
    exact hJ_37 x_11 (some h0) x_15 (1 : Int32) hp_16 nx_17 _ _ _ hw (lv_sub hl [1, 2, 3, 4, 0] rfl) hH hz hS
theorem fp_X5_517 {ci : Nat} (h : ci ∈ [5]) : zFp "WhatIfSheetModel" 517 ci 53 .double := by
  simp only [List.mem_cons, List.not_mem_nil, or_false] at h
  rcases h with rfl
  · exact ⟨RX5, TX5, 76, rfl, by decide, q2727, rfl, by decide +kernel⟩
theorem fp_X5_520 {ci : Nat} (h : ci ∈ [5]) : zFp "WhatIfSheetModel" 520 ci 54 .double := by
  simp only [List.mem_cons, List.not_mem_nil, or_false] at h
  rcases h with rfl
  · exact ⟨RX5, TX5, 76, rfl, by decide, q2728, rfl, by decide +kernel⟩
def wp_X5_finds (l : Launch) (g : zG) (d : Nat) (h0 : Nat) (x1 : UInt64) (x3 : UInt64) (hp : zHp) (nx : Nat) (Post : zHp → Nat → Prop) : Prop :=
  (zpt g hp (some h0) [5] 53 (.double x1) fun hp_4 =>
  (zpt g hp_4 (some h0) [5] 54 (.double x3) fun hp_8 =>
  (Post hp_8 nx)))
set_option maxHeartbeats 40000000 in
theorem met_X5_finds {l : Launch} {g : zG} {d : Nat} {h0 : Nat} {x1 : UInt64} {x3 : UInt64} {hp : zHp} {nx : Nat} {Post : zHp → Nat → Prop} (hw : wp_X5_finds l g d h0 x1 x3 hp nx Post) : zMt l g yX5_finds cX5_finds 5 none (d + 1) 0 0 [.ref h0, .double x1, .double x3] hp nx (zQv g Post) := by
  refine z_start (by decide) (Nat.le_of_ble_eq_true rfl) ?_
  intro p e s m below meth c hk hr hin hH hz ls hl
  have hx := hk.1.1
  have hb := hk.1.2.1
  have hown := hk.1.2.2.2.1
  have hts := hk.1.2.2.2.2
  have hS : va_S (zAd g) s.heap s.heap [] := va_S.rf
  have hl : lv_has ls 5 [(0, va_rf (some h0)), (1, .double x1), (3, .double x3)] := hl
  unfold wp_X5_finds at hw
  refine zr_aload_n (r := some h0) hx hb dX5_finds_0 rfl (lv_at hl 0 rfl) ?_
  refine lv_dload_n hx hb dX5_finds_1 rfl (lv_at hl 1 rfl) ?_
  obtain ⟨a_1, ci_2, fs_3, hp_4, er, he, hc, hA, hkl, eh, hw⟩ := zpt_e hw
  refine zw_put hk hH hz hS er he hA hkl eh (fp_X5_517 hc) rfl rfl dX5_finds_2 (fun H locs hH hz hS => ?_)
  refine zr_aload_n (r := some h0) hx hb dX5_finds_5 rfl (lv_at hl 0 rfl) ?_
  refine lv_dload_n hx hb dX5_finds_6 rfl (lv_at hl 2 rfl) ?_
  obtain ⟨a_5, ci_6, fs_7, hp_8, er, he, hc, hA, hkl, eh, hw⟩ := zpt_e hw
  refine zw_put hk hH hz hS er he hA hkl eh (fp_X5_520 hc) rfl rfl dX5_finds_7 (fun H locs hH hz hS => ?_)
  exact zr_vret hk hr hH hz hS hw (Nat.le_of_ble_eq_true rfl) (Nat.le_of_ble_eq_true rfl) dX5_finds_10
def wp_X5_swing (l : Launch) (g : zG) (d : Nat) (h0 : Nat) (x1 : Int32) (x2 : Int32) (x3 : Int32) (hp : zHp) (nx : Nat) (Post : Int64 → zHp → Nat → Prop) : Prop :=
  (zMt l g yX5_isCell cX5_isCell 1 (some .boolean) d 0 0 [.int x1] hp nx (zQi g fun x_3 hp_1 nx_2 =>
  (∃ P_27 : zHp → Nat → Prop, (∀ (hp_4 : zHp) (nx_5 : Nat), P_27 hp_4 nx_5 →
  (Post (-2 : Int64) hp_4 nx_5)) ∧
  ((x_3 = 0 →
  P_27 hp_1 nx_2) ∧
  (¬ x_3 = 0 →
  (zMt l g yX5_in cX5_in 3 (some .boolean) d 0 0 [.int x2, .int (1 : Int32), .int (80000 : Int32)] hp_1 nx_2 (zQi g fun x_8 hp_6 nx_7 =>
  ((x_8 = 0 →
  P_27 hp_6 nx_7) ∧
  (¬ x_8 = 0 →
  (zMt l g yX5_in cX5_in 3 (some .boolean) d 0 0 [.int x3, .int (0 : Int32), .int (1 : Int32)] hp_6 nx_7 (zQi g fun x_11 hp_9 nx_10 =>
  ((x_11 = 0 →
  P_27 hp_9 nx_10) ∧
  (¬ x_11 = 0 →
  (∀ x_12 : UInt64, x_12 = FP.dconst0 →
  (zo hp_9 (some h0) [5] fun a_129 ci_130 fs_131 => zMt l g yX5_reads cX5_reads 3 (some .int) d 0 0 (.ref a_129 :: [.int x1]) hp_9 nx_10 (zQi g fun x_15 hp_13 nx_14 =>
  (∃ I_47 : Nat → Int32 → UInt64 → Int32 → Int32 → zHp → Nat → Prop, (∃ n_128, I_47 n_128 (-1 : Int32) x_12 x_15 (0 : Int32) hp_13 nx_14) ∧ ∀ (n_22 : Nat) (x_16 : Int32) (x_17 : UInt64) (x_18 : Int32) (x_19 : Int32) (hp_20 : zHp) (nx_21 : Nat), I_47 n_22 x_16 x_17 x_18 x_19 hp_20 nx_21 →
  (((24 : Int32) ≤ x_19 →
  (∃ P_223 : Int32 → UInt64 → Int32 → Int32 → Int64 → zHp → Nat → Prop, (∀ (x_23 : Int32) (x_24 : UInt64) (x_25 : Int32) (x_26 : Int32) (x_27 : Int64) (hp_28 : zHp) (nx_29 : Nat), P_223 x_23 x_24 x_25 x_26 x_27 hp_28 nx_29 →
  (Post x_27 hp_28 nx_29)) ∧
  (∃ P_212 : Int32 → UInt64 → Int32 → Int32 → zHp → Nat → Prop, (∀ (x_30 : Int32) (x_31 : UInt64) (x_32 : Int32) (x_33 : Int32) (hp_34 : zHp) (nx_35 : Nat), P_212 x_30 x_31 x_32 x_33 hp_34 nx_35 →
  P_223 x_30 x_31 x_32 x_33 x_30.toInt64 hp_34 nx_35) ∧
  ((x3 = 0 →
  P_212 x_16 x_17 x_18 x_19 hp_20 nx_21) ∧
  (¬ x3 = 0 →
  ((x_16 = (-1 : Int32) →
  P_212 x_16 x_17 x_18 x_19 hp_20 nx_21) ∧
  (¬ x_16 = (-1 : Int32) →
  (zMt l g yX5_bits cX5_bits 2 (some .long) d 0 0 [.double x_17] hp_20 nx_21 (zQl g fun x_38 hp_36 nx_37 =>
  P_223 x_16 x_17 x_18 x_19 x_38 hp_36 nx_37))))))))) ∧
  (¬ (24 : Int32) ≤ x_19 →
  (∃ P_196 : Int32 → UInt64 → Int32 → Int32 → zHp → Nat → Prop, (∀ (x_39 : Int32) (x_40 : UInt64) (x_41 : Int32) (x_42 : Int32) (hp_43 : zHp) (nx_44 : Nat), P_196 x_39 x_40 x_41 x_42 hp_43 nx_44 →
  (∀ x_45 : Int32, x_45 = x_42 + (1 : Int32) →
  (∃ k_46, k_46 < n_22 ∧ I_47 k_46 x_39 x_40 x_41 x_45 hp_43 nx_44))) ∧
  ((((x_18 >>> (x_19 &&& 31)) &&& (1 : Int32)) = 0 →
  P_196 x_16 x_17 x_18 x_19 hp_20 nx_21) ∧
  (¬ ((x_18 >>> (x_19 &&& 31)) &&& (1 : Int32)) = 0 →
  (zgR hp_20 (some h0) [5] 1 fun r_50 =>
  (zaI (g.2.1 3) hp_20 r_50 fun a_51 n_52 f_53 => vp_in x_19 n_52 ∧ ∀ x_54 : Int32, x_54 = f_53 x_19.toNatClampNeg →
  ((x_54 = 0 →
  P_196 x_16 x_17 x_18 x_19 hp_20 nx_21) ∧
  (¬ x_54 = 0 →
  (zgR hp_20 (some h0) [5] 2 fun r_58 =>
  (zaD (g.2.1 1) hp_20 r_58 fun a_59 n_60 f_61 => vp_in x_19 n_60 ∧ ∀ x_62 : UInt64, x_62 = f_61 x_19.toNatClampNeg →
  (vf_n64 (FP.ddiv (FP.i2d x2) (4620693217682128896 : UInt64)) ∧ (vf_n64 (FP.dadd x_62 (FP.ddiv (FP.i2d x2) (4620693217682128896 : UInt64))) ∧ (zo hp_20 (some h0) [5] fun a_125 ci_126 fs_127 => zMt l g yX5_valueBy cX5_valueBy 10 (some .double) d 0 0 (.ref a_125 :: [.int x_19, .double (FP.dadd x_62 (FP.ddiv (FP.i2d x2) (4620693217682128896 : UInt64))), .int x1]) hp_20 nx_21 (zQd g fun x_65 hp_63 nx_64 =>
  (zo hp_63 (some h0) [5] fun a_122 ci_123 fs_124 => zMt l g yX5_errorOf cX5_errorOf 2 (some .int) d 0 0 (.ref a_122 :: [.int x1]) hp_63 nx_64 (zQi g fun x_68 hp_66 nx_67 =>
  (∃ P_113 : Int32 → UInt64 → Int32 → Int32 → UInt64 → Int32 → zHp → Nat → Prop, (∀ (x_69 : Int32) (x_70 : UInt64) (x_71 : Int32) (x_72 : Int32) (x_73 : UInt64) (x_74 : Int32) (hp_75 : zHp) (nx_76 : Nat), P_113 x_69 x_70 x_71 x_72 x_73 x_74 hp_75 nx_76 →
  (zgR hp_75 (some h0) [5] 2 fun r_80 =>
  (zaD (g.2.1 1) hp_75 r_80 fun a_81 n_82 f_83 => vp_in x_72 n_82 ∧ ∀ x_84 : UInt64, x_84 = f_83 x_72.toNatClampNeg →
  (vf_n64 (FP.ddiv (FP.i2d x2) (4620693217682128896 : UInt64)) ∧ (vf_n64 (FP.dsub x_84 (FP.ddiv (FP.i2d x2) (4620693217682128896 : UInt64))) ∧ (zo hp_75 (some h0) [5] fun a_119 ci_120 fs_121 => zMt l g yX5_valueBy cX5_valueBy 10 (some .double) d 0 0 (.ref a_119 :: [.int x_72, .double (FP.dsub x_84 (FP.ddiv (FP.i2d x2) (4620693217682128896 : UInt64))), .int x1]) hp_75 nx_76 (zQd g fun x_87 hp_85 nx_86 =>
  (zo hp_85 (some h0) [5] fun a_116 ci_117 fs_118 => zMt l g yX5_errorOf cX5_errorOf 2 (some .int) d 0 0 (.ref a_116 :: [.int x1]) hp_85 nx_86 (zQi g fun x_90 hp_88 nx_89 =>
  (∃ P_153 : Int32 → UInt64 → Int32 → Int32 → UInt64 → Int32 → UInt64 → Int32 → Int32 → zHp → Nat → Prop, (∀ (x_91 : Int32) (x_92 : UInt64) (x_93 : Int32) (x_94 : Int32) (x_95 : UInt64) (x_96 : Int32) (x_97 : UInt64) (x_98 : Int32) (x_99 : Int32) (hp_100 : zHp) (nx_101 : Nat), P_153 x_91 x_92 x_93 x_94 x_95 x_96 x_97 x_98 x_99 hp_100 nx_101 →
  (∀ x_102 : Int32, x_102 = x_98 ||| x_99 →
  (vf_n64 (FP.dsub x_95 x_97) ∧ (zMt l g yJ10_abs cJ10_abs 2 (some .double) d 0 0 [.double (FP.dsub x_95 x_97)] hp_100 nx_101 (zQd g fun x_105 hp_103 nx_104 =>
  ((x_102 = 0 →
  (∃ P_188 : Int32 → UInt64 → Int32 → Int32 → UInt64 → Int32 → UInt64 → UInt64 → zHp → Nat → Prop, (∀ (x_106 : Int32) (x_107 : UInt64) (x_108 : Int32) (x_109 : Int32) (x_110 : UInt64) (x_111 : Int32) (x_112 : UInt64) (x_113 : UInt64) (hp_114 : zHp) (nx_115 : Nat), P_188 x_106 x_107 x_108 x_109 x_110 x_111 x_112 x_113 hp_114 nx_115 →
  P_196 x_109 x_113 x_108 x_109 hp_114 nx_115) ∧
  ((x_91 = (-1 : Int32) →
  P_188 x_91 x_92 x_93 x_94 x_95 x_102 x_97 x_105 hp_103 nx_104) ∧
  (¬ x_91 = (-1 : Int32) →
  ((0 < (Op.cmpValue (FP.dcmp x_105 x_92) .g) →
  P_188 x_91 x_92 x_93 x_94 x_95 x_102 x_97 x_105 hp_103 nx_104) ∧
  (¬ 0 < (Op.cmpValue (FP.dcmp x_105 x_92) .g) →
  P_196 x_91 x_92 x_93 x_94 hp_103 nx_104)))))) ∧
  (¬ x_102 = 0 →
  P_196 x_91 x_92 x_93 x_94 hp_103 nx_104))))))) ∧
  ((x_90 = 0 →
  P_153 x_69 x_70 x_71 x_72 x_73 x_74 x_87 x_74 (0 : Int32) hp_88 nx_89) ∧
  (¬ x_90 = 0 →
  P_153 x_69 x_70 x_71 x_72 x_73 x_74 x_87 x_74 (1 : Int32) hp_88 nx_89)))))))))))) ∧
  ((x_68 = 0 →
  P_113 x_16 x_17 x_18 x_19 x_65 (0 : Int32) hp_66 nx_67) ∧
  (¬ x_68 = 0 →
  P_113 x_16 x_17 x_18 x_19 x_65 (1 : Int32) hp_66 nx_67)))))))))))))))))))))))))))))))))))))
set_option maxHeartbeats 40000000 in
theorem met_X5_swing {l : Launch} {g : zG} {d : Nat} {h0 : Nat} {x1 : Int32} {x2 : Int32} {x3 : Int32} {hp : zHp} {nx : Nat} {Post : Int64 → zHp → Nat → Prop} (hw : wp_X5_swing l g d h0 x1 x2 x3 hp nx Post) : zMt l g yX5_swing cX5_swing 16 (some .long) (d + 1) 0 0 [.ref h0, .int x1, .int x2, .int x3] hp nx (zQl g Post) := by
  refine z_start (by decide) (Nat.le_of_ble_eq_true rfl) ?_
  intro p e s m below meth c hk hr hin hH hz ls hl
  have hx := hk.1.1
  have hb := hk.1.2.1
  have hown := hk.1.2.2.2.1
  have hts := hk.1.2.2.2.2
  have hS : va_S (zAd g) s.heap s.heap [] := va_S.rf
  have hl : lv_has ls 16 [(0, va_rf (some h0)), (1, .int x1), (2, .int x2), (3, .int x3)] := hl
  unfold wp_X5_swing at hw
  refine lv_iload_n hx hb dX5_swing_0 rfl (lv_at hl 1 rfl) ?_
  refine zr_calli (zr_runS (As := [.int x1]) hk hH hz hS hl.1 hw (va_cwS 1 hts (lw_S q2908 q2909 q162 q2910) rfl rfl rfl (by decide +kernel) (z_room (Nat.le_of_ble_eq_true rfl))) rfl rfl (Nat.le_of_ble_eq_true rfl) dX5_swing_1 ⟨Nat.le_of_ble_eq_true rfl, Nat.le_of_ble_eq_true rfl⟩) hS (fun x_3 hp_1 nx_2 hw H locs hH hz hS => ?_)
  obtain ⟨P_27, hP_27, hw⟩ := hw
  have hJ_27 : ∀ (hp_4 : zHp) (nx_5 : Nat) (H : Heap) (locs : List Loc) (ls : Array Slot), P_27 hp_4 nx_5 → lv_has ls 16 [(0, va_rf (some h0)), (1, .int x1), (2, .int x2), (3, .int x3)] → zHd g hp_4 H → H.size = nx_5 → va_S (zAd g) s.heap H locs → W p l e (zrm (d + 1) 0 0) s m ([.ref h0, .int x1, .int x2, .int x3] : List Value).toArray below meth c H locs 0 0 (MQ below (zQl g Post) ([.ref h0, .int x1, .int x2, .int x3] : List Value).toArray s 0 0 (zAd g)) (F0 m 27 ls []) := by
    intro hp_4 nx_5 H locs ls hw hl hH hz hS
    have hw := hP_27 hp_4 nx_5 hw
    refine lv_ldc2 hx hb hown (hts _ q3037) dX5_swing_27 ?_
    exact zr_lret hk hr hH hz hS hw (Nat.le_of_ble_eq_true rfl) (Nat.le_of_ble_eq_true rfl) dX5_swing_30
  refine lv_if_eq (tgt := 27) hx hb dX5_swing_4 (by decide) (fun hc => ?_) (fun hc => ?_)
  · have hw := hw.1 hc
    exact hJ_27 hp_1 nx_2 _ _ _ hw hl hH hz hS
  · have hw := hw.2 hc
    refine lv_iload_n hx hb dX5_swing_7 rfl (lv_at hl 2 rfl) ?_
    refine lv_iconst (v := (1 : Int32)) hx hb dX5_swing_8 (by decide) ?_
    refine lv_ldcw hx hb hown (hts _ q3189) dX5_swing_9 ?_
    refine zr_calli (zr_runS (As := [.int x2, .int (1 : Int32), .int (80000 : Int32)]) hk hH hz hS hl.1 hw (va_cwS 3 hts (lw_S q2911 q2912 q162 q2913) rfl rfl rfl (by decide +kernel) (z_room (Nat.le_of_ble_eq_true rfl))) rfl rfl (Nat.le_of_ble_eq_true rfl) dX5_swing_12 ⟨Nat.le_of_ble_eq_true rfl, Nat.le_of_ble_eq_true rfl⟩) hS (fun x_8 hp_6 nx_7 hw H locs hH hz hS => ?_)
    refine lv_if_eq (tgt := 27) hx hb dX5_swing_15 (by decide) (fun hc => ?_) (fun hc => ?_)
    · have hw := hw.1 hc
      exact hJ_27 hp_6 nx_7 _ _ _ hw hl hH hz hS
    · have hw := hw.2 hc
      refine lv_iload_n hx hb dX5_swing_18 rfl (lv_at hl 3 rfl) ?_
      refine lv_iconst (v := (0 : Int32)) hx hb dX5_swing_19 (by decide) ?_
      refine lv_iconst (v := (1 : Int32)) hx hb dX5_swing_20 (by decide) ?_
      refine zr_calli (zr_runS (As := [.int x3, .int (0 : Int32), .int (1 : Int32)]) hk hH hz hS hl.1 hw (va_cwS 3 hts (lw_S q2911 q2912 q162 q2913) rfl rfl rfl (by decide +kernel) (z_room (Nat.le_of_ble_eq_true rfl))) rfl rfl (Nat.le_of_ble_eq_true rfl) dX5_swing_21 ⟨Nat.le_of_ble_eq_true rfl, Nat.le_of_ble_eq_true rfl⟩) hS (fun x_11 hp_9 nx_10 hw H locs hH hz hS => ?_)
      refine lv_if_ne (tgt := 31) hx hb dX5_swing_24 (by decide) (fun hc => ?_) (fun hc => ?_)
      · have hw := hw.2 hc
        refine lv_iconst (v := (-1 : Int32)) hx hb dX5_swing_31 (by decide) ?_
        refine lv_istore (lv' := [(4, .int (-1 : Int32)), (0, va_rf (some h0)), (1, .int x1), (2, .int x2), (3, .int x3)]) hx hb dX5_swing_32 hl (by decide) (by first | rfl | simp [List.filter_cons, z_cat, z_catI, z_catJ, z_catF, z_catD]) (fun ls hl => ?_)
        refine lv_dconst0 hx hb dX5_swing_34 ?_
        refine lv_topd (fun x_12 ex_12 => ?_)
        have hw := hw x_12 ex_12
        refine lv_dstore (lv' := [(5, .double x_12), (4, .int (-1 : Int32)), (0, va_rf (some h0)), (1, .int x1), (2, .int x2), (3, .int x3)]) hx hb dX5_swing_35 hl (by decide) (by first | rfl | simp [List.filter_cons, z_cat, z_catI, z_catJ, z_catF, z_catD]) (fun ls hl => ?_)
        refine zr_aload_n (r := some h0) hx hb dX5_swing_37 rfl (lv_at hl 2 rfl) ?_
        refine lv_iload_n hx hb dX5_swing_38 rfl (lv_at hl 3 rfl) ?_
        obtain ⟨a_129, ci_130, fs_131, er, he, hc, hw⟩ := zo_e hw
        obtain rfl := List.mem_singleton.mp hc
        refine zr_calli (zw_runV (As := [.int x1]) hk hH hz hS hl.1 er hw (cwV 1 hts (lw_V q2949 q2951 qs71 q162 q2952) rfl rfl rfl (by decide +kernel) (z_room (Nat.le_of_ble_eq_true rfl))) he rfl rfl rfl (Nat.le_of_ble_eq_true rfl) dX5_swing_39 ⟨Nat.le_of_ble_eq_true rfl, Nat.le_of_ble_eq_true rfl⟩) hS (fun x_15 hp_13 nx_14 hw H locs hH hz hS => ?_)
        refine lv_istore (lv' := [(7, .int x_15), (5, .double x_12), (4, .int (-1 : Int32)), (0, va_rf (some h0)), (1, .int x1), (2, .int x2), (3, .int x3)]) hx hb dX5_swing_42 hl (by decide) (by first | rfl | simp [List.filter_cons, z_cat, z_catI, z_catJ, z_catF, z_catD]) (fun ls hl => ?_)
        refine lv_iconst (v := (0 : Int32)) hx hb dX5_swing_44 (by decide) ?_
        refine lv_istore (lv' := [(8, .int (0 : Int32)), (7, .int x_15), (5, .double x_12), (4, .int (-1 : Int32)), (0, va_rf (some h0)), (1, .int x1), (2, .int x2), (3, .int x3)]) hx hb dX5_swing_45 hl (by decide) (by first | rfl | simp [List.filter_cons, z_cat, z_catI, z_catJ, z_catF, z_catD]) (fun ls hl => ?_)
        obtain ⟨I_47, ⟨n_128, hI⟩, hB_47⟩ := hw
        have hL_47 : ∀ (n_22 : Nat) (x_16 : Int32) (x_17 : UInt64) (x_18 : Int32) (x_19 : Int32) (hp_20 : zHp) (nx_21 : Nat) (H : Heap) (locs : List Loc) (ls : Array Slot), I_47 n_22 x_16 x_17 x_18 x_19 hp_20 nx_21 → lv_has ls 16 [(0, va_rf (some h0)), (1, .int x1), (2, .int x2), (3, .int x3), (4, .int x_16), (5, .double x_17), (7, .int x_18), (8, .int x_19)] → zHd g hp_20 H → H.size = nx_21 → va_S (zAd g) s.heap H locs → W p l e (zrm (d + 1) 0 0) s m ([.ref h0, .int x1, .int x2, .int x3] : List Value).toArray below meth c H locs 0 0 (MQ below (zQl g Post) ([.ref h0, .int x1, .int x2, .int x3] : List Value).toArray s 0 0 (zAd g)) (F0 m 47 ls []) := by
          intro n_22
          induction n_22 using Nat.strongRecOn with
          | _ n_22 ih_47 =>
            intro x_16 x_17 x_18 x_19 hp_20 nx_21 H locs ls hw hl hH hz hS
            have hw := hB_47 n_22 x_16 x_17 x_18 x_19 hp_20 nx_21 hw
            refine lv_iload hx hb dX5_swing_47 (lv_at hl 7 rfl) ?_
            refine lv_bipush (v := (24 : Int32)) hx hb dX5_swing_49 (by decide) ?_
            refine lv_icmp_ge (tgt := 202) hx hb dX5_swing_51 (by decide) (fun hc => ?_) (fun hc => ?_)
            · have hw := hw.1 hc
              refine lv_iload_n hx hb dX5_swing_202 rfl (lv_at hl 3 rfl) ?_
              obtain ⟨P_223, hP_223, hw⟩ := hw
              have hJ_223 : ∀ (x_23 : Int32) (x_24 : UInt64) (x_25 : Int32) (x_26 : Int32) (x_27 : Int64) (hp_28 : zHp) (nx_29 : Nat) (H : Heap) (locs : List Loc) (ls : Array Slot), P_223 x_23 x_24 x_25 x_26 x_27 hp_28 nx_29 → lv_has ls 16 [(0, va_rf (some h0)), (1, .int x1), (2, .int x2), (3, .int x3), (4, .int x_23), (5, .double x_24), (7, .int x_25), (8, .int x_26)] → zHd g hp_28 H → H.size = nx_29 → va_S (zAd g) s.heap H locs → W p l e (zrm (d + 1) 0 0) s m ([.ref h0, .int x1, .int x2, .int x3] : List Value).toArray below meth c H locs 0 0 (MQ below (zQl g Post) ([.ref h0, .int x1, .int x2, .int x3] : List Value).toArray s 0 0 (zAd g)) (F0 m 223 ls [.long x_27]) := by
                intro x_23 x_24 x_25 x_26 x_27 hp_28 nx_29 H locs ls hw hl hH hz hS
                have hw := hP_223 x_23 x_24 x_25 x_26 x_27 hp_28 nx_29 hw
                exact zr_lret hk hr hH hz hS hw (Nat.le_of_ble_eq_true rfl) (Nat.le_of_ble_eq_true rfl) dX5_swing_223
              obtain ⟨P_212, hP_212, hw⟩ := hw
              have hJ_212 : ∀ (x_30 : Int32) (x_31 : UInt64) (x_32 : Int32) (x_33 : Int32) (hp_34 : zHp) (nx_35 : Nat) (H : Heap) (locs : List Loc) (ls : Array Slot), P_212 x_30 x_31 x_32 x_33 hp_34 nx_35 → lv_has ls 16 [(0, va_rf (some h0)), (1, .int x1), (2, .int x2), (3, .int x3), (4, .int x_30), (5, .double x_31), (7, .int x_32), (8, .int x_33)] → zHd g hp_34 H → H.size = nx_35 → va_S (zAd g) s.heap H locs → W p l e (zrm (d + 1) 0 0) s m ([.ref h0, .int x1, .int x2, .int x3] : List Value).toArray below meth c H locs 0 0 (MQ below (zQl g Post) ([.ref h0, .int x1, .int x2, .int x3] : List Value).toArray s 0 0 (zAd g)) (F0 m 212 ls []) := by
                intro x_30 x_31 x_32 x_33 hp_34 nx_35 H locs ls hw hl hH hz hS
                have hw := hP_212 x_30 x_31 x_32 x_33 hp_34 nx_35 hw
                refine lv_iload hx hb dX5_swing_212 (lv_at hl 4 rfl) ?_
                refine lv_i2l hx hb dX5_swing_214 rfl ?_
                refine lv_goto (tgt := 223) hx hb dX5_swing_215 (by decide) ?_
                exact hJ_223 x_30 x_31 x_32 x_33 x_30.toInt64 hp_34 nx_35 _ _ _ hw hl hH hz hS
              refine lv_if_eq (tgt := 212) hx hb dX5_swing_203 (by decide) (fun hc => ?_) (fun hc => ?_)
              · have hw := hw.1 hc
                exact hJ_212 x_16 x_17 x_18 x_19 hp_20 nx_21 _ _ _ hw hl hH hz hS
              · have hw := hw.2 hc
                refine lv_iload hx hb dX5_swing_206 (lv_at hl 4 rfl) ?_
                refine lv_iconst (v := (-1 : Int32)) hx hb dX5_swing_208 (by decide) ?_
                refine lv_icmp_ne (tgt := 218) hx hb dX5_swing_209 (by decide) (fun hc => ?_) (fun hc => ?_)
                · have hw := hw.2 hc
                  refine lv_dload hx hb dX5_swing_218 (lv_at hl 5 rfl) ?_
                  refine zr_calll (zr_runS (As := [.double x_17]) hk hH hz hS hl.1 hw (va_cwS 1 hts (lw_S q3049 q3050 q162 q3051) rfl rfl rfl (by decide +kernel) (z_room (Nat.le_of_ble_eq_true rfl))) rfl rfl (Nat.le_of_ble_eq_true rfl) dX5_swing_220 ⟨Nat.le_of_ble_eq_true rfl, Nat.le_of_ble_eq_true rfl⟩) hS (fun x_38 hp_36 nx_37 hw H locs hH hz hS => ?_)
                  exact hJ_223 x_16 x_17 x_18 x_19 x_38 hp_36 nx_37 _ _ _ hw hl hH hz hS
                · have hw := hw.1 hc
                  exact hJ_212 x_16 x_17 x_18 x_19 hp_20 nx_21 _ _ _ hw hl hH hz hS
            · have hw := hw.2 hc
              refine lv_iload hx hb dX5_swing_54 (lv_at hl 6 rfl) ?_
              refine lv_iload hx hb dX5_swing_56 (lv_at hl 7 rfl) ?_
              refine lv_ishr hx hb dX5_swing_58 ?_
              refine lv_iconst (v := (1 : Int32)) hx hb dX5_swing_59 (by decide) ?_
              refine lv_iand hx hb dX5_swing_60 ?_
              obtain ⟨P_196, hP_196, hw⟩ := hw
              have hJ_196 : ∀ (x_39 : Int32) (x_40 : UInt64) (x_41 : Int32) (x_42 : Int32) (hp_43 : zHp) (nx_44 : Nat) (H : Heap) (locs : List Loc) (ls : Array Slot), P_196 x_39 x_40 x_41 x_42 hp_43 nx_44 → lv_has ls 16 [(0, va_rf (some h0)), (1, .int x1), (2, .int x2), (3, .int x3), (4, .int x_39), (5, .double x_40), (7, .int x_41), (8, .int x_42)] → zHd g hp_43 H → H.size = nx_44 → va_S (zAd g) s.heap H locs → W p l e (zrm (d + 1) 0 0) s m ([.ref h0, .int x1, .int x2, .int x3] : List Value).toArray below meth c H locs 0 0 (MQ below (zQl g Post) ([.ref h0, .int x1, .int x2, .int x3] : List Value).toArray s 0 0 (zAd g)) (F0 m 196 ls []) := by
                intro x_39 x_40 x_41 x_42 hp_43 nx_44 H locs ls hw hl hH hz hS
                have hw := hP_196 x_39 x_40 x_41 x_42 hp_43 nx_44 hw
                obtain ⟨x_45, ex_45⟩ : ∃ y : Int32, y = x_42 + (1 : Int32) := ⟨_, rfl⟩
                have hw := hw x_45 ex_45
                refine lv_iinc (v := x_45) (lv' := [(8, .int x_45), (0, va_rf (some h0)), (1, .int x1), (2, .int x2), (3, .int x3), (4, .int x_39), (5, .double x_40), (7, .int x_41)]) hx hb dX5_swing_196 hl (k := 7) rfl (by rw [ex_45]; rfl) (by decide) (by first | rfl | simp [List.filter_cons, z_cat, z_catI, z_catJ, z_catF, z_catD]) (fun ls hl => ?_)
                refine lv_goto (tgt := 47) hx hb dX5_swing_199 (by decide) ?_
                obtain ⟨k_46, hlt, hw⟩ := hw
                exact ih_47 k_46 hlt x_39 x_40 x_41 x_45 hp_43 nx_44 _ _ _ hw (lv_sub hl [1, 2, 3, 4, 5, 6, 7, 0] rfl) hH hz hS
              refine lv_if_eq (tgt := 196) hx hb dX5_swing_61 (by decide) (fun hc => ?_) (fun hc => ?_)
              · have hw := hw.1 hc
                exact hJ_196 x_16 x_17 x_18 x_19 hp_20 nx_21 _ _ _ hw hl hH hz hS
              · have hw := hw.2 hc
                refine zr_aload_n (r := some h0) hx hb dX5_swing_64 rfl (lv_at hl 0 rfl) ?_
                obtain ⟨a_47, ci_48, fs_49, r_50, er, he, hc, hv, hw⟩ := zgR_e hw
                refine zw_get hk hH er he hv (fk_X5_13 hc) dX5_swing_65 ?_
                refine lv_iload hx hb dX5_swing_68 (lv_at hl 7 rfl) ?_
                obtain ⟨a_51, n_52, f_53, er, he, hi, hw⟩ := zaI_e hw
                have hw := hw _ rfl
                refine zw_zald hk hH er he hi dX5_swing_70 ?_
                generalize f_53 x_19.toNatClampNeg = x_54 at hw ⊢
                refine lv_if_ne (tgt := 77) hx hb dX5_swing_71 (by decide) (fun hc => ?_) (fun hc => ?_)
                · have hw := hw.2 hc
                  refine zr_aload_n (r := some h0) hx hb dX5_swing_77 rfl (lv_at hl 0 rfl) ?_
                  refine lv_iload hx hb dX5_swing_78 (lv_at hl 7 rfl) ?_
                  refine zr_aload_n (r := some h0) hx hb dX5_swing_80 rfl (lv_at hl 0 rfl) ?_
                  obtain ⟨a_55, ci_56, fs_57, r_58, er, he, hc, hv, hw⟩ := zgR_e hw
                  refine zw_get hk hH er he hv (fk_X5_17 hc) dX5_swing_81 ?_
                  refine lv_iload hx hb dX5_swing_84 (lv_at hl 7 rfl) ?_
                  obtain ⟨a_59, n_60, f_61, er, he, hi, hw⟩ := zaD_e hw
                  have hw := hw _ rfl
                  refine zw_dald hk hH er he hi dX5_swing_86 ?_
                  generalize f_61 x_19.toNatClampNeg = x_62 at hw ⊢
                  refine lv_iload_n hx hb dX5_swing_87 rfl (lv_at hl 2 rfl) ?_
                  refine lv_i2d hx hb dX5_swing_88 ?_
                  refine lv_ldc2d hx hb hown (hts _ q2923) dX5_swing_89 ?_
                  obtain ⟨hne, hw⟩ := hw
                  refine lv_ddiv hx hb dX5_swing_92 hne ?_
                  obtain ⟨hne, hw⟩ := hw
                  refine lv_dadd hx hb dX5_swing_93 hne ?_
                  refine lv_iload_n hx hb dX5_swing_94 rfl (lv_at hl 1 rfl) ?_
                  obtain ⟨a_125, ci_126, fs_127, er, he, hc, hw⟩ := zo_e hw
                  obtain rfl := List.mem_singleton.mp hc
                  refine zr_calld (zw_runV (As := [.int x_19, .double (FP.dadd x_62 (FP.ddiv (FP.i2d x2) (4620693217682128896 : UInt64))), .int x1]) hk hH hz hS hl.1 er hw (cwV 3 hts (lw_V q3059 q3061 qs92 q162 q3062) rfl rfl rfl (by decide +kernel) (z_room (Nat.le_of_ble_eq_true rfl))) he rfl rfl rfl (Nat.le_of_ble_eq_true rfl) dX5_swing_95 ⟨Nat.le_of_ble_eq_true rfl, Nat.le_of_ble_eq_true rfl⟩) hS (fun x_65 hp_63 nx_64 hw H locs hH hz hS => ?_)
                  refine lv_dstore (lv' := [(9, .double x_65), (0, va_rf (some h0)), (1, .int x1), (2, .int x2), (3, .int x3), (4, .int x_16), (5, .double x_17), (7, .int x_18), (8, .int x_19)]) hx hb dX5_swing_98 hl (by decide) (by first | rfl | simp [List.filter_cons, z_cat, z_catI, z_catJ, z_catF, z_catD]) (fun ls hl => ?_)
                  refine zr_aload_n (r := some h0) hx hb dX5_swing_100 rfl (lv_at hl 1 rfl) ?_
                  refine lv_iload_n hx hb dX5_swing_101 rfl (lv_at hl 2 rfl) ?_
                  obtain ⟨a_122, ci_123, fs_124, er, he, hc, hw⟩ := zo_e hw
                  obtain rfl := List.mem_singleton.mp hc
                  refine zr_calli (zw_runV (As := [.int x1]) hk hH hz hS hl.1 er hw (cwV 1 hts (lw_V q3042 q3044 qs91 q162 q3045) rfl rfl rfl (by decide +kernel) (z_room (Nat.le_of_ble_eq_true rfl))) he rfl rfl rfl (Nat.le_of_ble_eq_true rfl) dX5_swing_102 ⟨Nat.le_of_ble_eq_true rfl, Nat.le_of_ble_eq_true rfl⟩) hS (fun x_68 hp_66 nx_67 hw H locs hH hz hS => ?_)
                  obtain ⟨P_113, hP_113, hw⟩ := hw
                  have hJ_113 : ∀ (x_69 : Int32) (x_70 : UInt64) (x_71 : Int32) (x_72 : Int32) (x_73 : UInt64) (x_74 : Int32) (hp_75 : zHp) (nx_76 : Nat) (H : Heap) (locs : List Loc) (ls : Array Slot), P_113 x_69 x_70 x_71 x_72 x_73 x_74 hp_75 nx_76 → lv_has ls 16 [(0, va_rf (some h0)), (1, .int x1), (2, .int x2), (3, .int x3), (4, .int x_69), (5, .double x_70), (7, .int x_71), (8, .int x_72), (9, .double x_73)] → zHd g hp_75 H → H.size = nx_76 → va_S (zAd g) s.heap H locs → W p l e (zrm (d + 1) 0 0) s m ([.ref h0, .int x1, .int x2, .int x3] : List Value).toArray below meth c H locs 0 0 (MQ below (zQl g Post) ([.ref h0, .int x1, .int x2, .int x3] : List Value).toArray s 0 0 (zAd g)) (F0 m 113 ls [.int x_74]) := by
                    intro x_69 x_70 x_71 x_72 x_73 x_74 hp_75 nx_76 H locs ls hw hl hH hz hS
                    have hw := hP_113 x_69 x_70 x_71 x_72 x_73 x_74 hp_75 nx_76 hw
                    refine lv_istore (lv' := [(11, .int x_74), (0, va_rf (some h0)), (1, .int x1), (2, .int x2), (3, .int x3), (4, .int x_69), (5, .double x_70), (7, .int x_71), (8, .int x_72), (9, .double x_73)]) hx hb dX5_swing_113 hl (by decide) (by first | rfl | simp [List.filter_cons, z_cat, z_catI, z_catJ, z_catF, z_catD]) (fun ls hl => ?_)
                    refine zr_aload_n (r := some h0) hx hb dX5_swing_115 rfl (lv_at hl 1 rfl) ?_
                    refine lv_iload hx hb dX5_swing_116 (lv_at hl 8 rfl) ?_
                    refine zr_aload_n (r := some h0) hx hb dX5_swing_118 rfl (lv_at hl 1 rfl) ?_
                    obtain ⟨a_77, ci_78, fs_79, r_80, er, he, hc, hv, hw⟩ := zgR_e hw
                    refine zw_get hk hH er he hv (fk_X5_17 hc) dX5_swing_119 ?_
                    refine lv_iload hx hb dX5_swing_122 (lv_at hl 8 rfl) ?_
                    obtain ⟨a_81, n_82, f_83, er, he, hi, hw⟩ := zaD_e hw
                    have hw := hw _ rfl
                    refine zw_dald hk hH er he hi dX5_swing_124 ?_
                    generalize f_83 x_72.toNatClampNeg = x_84 at hw ⊢
                    refine lv_iload_n hx hb dX5_swing_125 rfl (lv_at hl 3 rfl) ?_
                    refine lv_i2d hx hb dX5_swing_126 ?_
                    refine lv_ldc2d hx hb hown (hts _ q2923) dX5_swing_127 ?_
                    obtain ⟨hne, hw⟩ := hw
                    refine lv_ddiv hx hb dX5_swing_130 hne ?_
                    obtain ⟨hne, hw⟩ := hw
                    refine lv_dsub hx hb dX5_swing_131 hne ?_
                    refine lv_iload_n hx hb dX5_swing_132 rfl (lv_at hl 2 rfl) ?_
                    obtain ⟨a_119, ci_120, fs_121, er, he, hc, hw⟩ := zo_e hw
                    obtain rfl := List.mem_singleton.mp hc
                    refine zr_calld (zw_runV (As := [.int x_72, .double (FP.dsub x_84 (FP.ddiv (FP.i2d x2) (4620693217682128896 : UInt64))), .int x1]) hk hH hz hS hl.1 er hw (cwV 3 hts (lw_V q3059 q3061 qs92 q162 q3062) rfl rfl rfl (by decide +kernel) (z_room (Nat.le_of_ble_eq_true rfl))) he rfl rfl rfl (Nat.le_of_ble_eq_true rfl) dX5_swing_133 ⟨Nat.le_of_ble_eq_true rfl, Nat.le_of_ble_eq_true rfl⟩) hS (fun x_87 hp_85 nx_86 hw H locs hH hz hS => ?_)
                    refine lv_dstore (lv' := [(12, .double x_87), (11, .int x_74), (0, va_rf (some h0)), (1, .int x1), (2, .int x2), (3, .int x3), (4, .int x_69), (5, .double x_70), (7, .int x_71), (8, .int x_72), (9, .double x_73)]) hx hb dX5_swing_136 hl (by decide) (by first | rfl | simp [List.filter_cons, z_cat, z_catI, z_catJ, z_catF, z_catD]) (fun ls hl => ?_)
                    refine lv_iload hx hb dX5_swing_138 (lv_at hl 1 rfl) ?_
                    refine zr_aload_n (r := some h0) hx hb dX5_swing_140 rfl (lv_at hl 2 rfl) ?_
                    refine lv_iload_n hx hb dX5_swing_141 rfl (lv_at hl 3 rfl) ?_
                    obtain ⟨a_116, ci_117, fs_118, er, he, hc, hw⟩ := zo_e hw
                    obtain rfl := List.mem_singleton.mp hc
                    refine zr_calli (zw_runV (As := [.int x1]) hk hH hz hS hl.1 er hw (cwV 1 hts (lw_V q3042 q3044 qs91 q162 q3045) rfl rfl rfl (by decide +kernel) (z_room (Nat.le_of_ble_eq_true rfl))) he rfl rfl rfl (Nat.le_of_ble_eq_true rfl) dX5_swing_142 ⟨Nat.le_of_ble_eq_true rfl, Nat.le_of_ble_eq_true rfl⟩) hS (fun x_90 hp_88 nx_89 hw H locs hH hz hS => ?_)
                    obtain ⟨P_153, hP_153, hw⟩ := hw
                    have hJ_153 : ∀ (x_91 : Int32) (x_92 : UInt64) (x_93 : Int32) (x_94 : Int32) (x_95 : UInt64) (x_96 : Int32) (x_97 : UInt64) (x_98 : Int32) (x_99 : Int32) (hp_100 : zHp) (nx_101 : Nat) (H : Heap) (locs : List Loc) (ls : Array Slot), P_153 x_91 x_92 x_93 x_94 x_95 x_96 x_97 x_98 x_99 hp_100 nx_101 → lv_has ls 16 [(0, va_rf (some h0)), (1, .int x1), (2, .int x2), (3, .int x3), (4, .int x_91), (5, .double x_92), (7, .int x_93), (8, .int x_94), (9, .double x_95), (11, .int x_96), (12, .double x_97)] → zHd g hp_100 H → H.size = nx_101 → va_S (zAd g) s.heap H locs → W p l e (zrm (d + 1) 0 0) s m ([.ref h0, .int x1, .int x2, .int x3] : List Value).toArray below meth c H locs 0 0 (MQ below (zQl g Post) ([.ref h0, .int x1, .int x2, .int x3] : List Value).toArray s 0 0 (zAd g)) (F0 m 153 ls [.int x_99, .int x_98]) := by
                      intro x_91 x_92 x_93 x_94 x_95 x_96 x_97 x_98 x_99 hp_100 nx_101 H locs ls hw hl hH hz hS
                      have hw := hP_153 x_91 x_92 x_93 x_94 x_95 x_96 x_97 x_98 x_99 hp_100 nx_101 hw
                      refine lv_ior hx hb dX5_swing_153 ?_
                      refine lv_topi (fun x_102 ex_102 => ?_)
                      have hw := hw x_102 ex_102
                      refine lv_istore (lv' := [(11, .int x_102), (0, va_rf (some h0)), (1, .int x1), (2, .int x2), (3, .int x3), (4, .int x_91), (5, .double x_92), (7, .int x_93), (8, .int x_94), (9, .double x_95), (12, .double x_97)]) hx hb dX5_swing_154 hl (by decide) (by first | rfl | simp [List.filter_cons, z_cat, z_catI, z_catJ, z_catF, z_catD]) (fun ls hl => ?_)
                      refine lv_dload hx hb dX5_swing_156 (lv_at hl 9 rfl) ?_
                      refine lv_dload hx hb dX5_swing_158 (lv_at hl 10 rfl) ?_
                      obtain ⟨hne, hw⟩ := hw
                      refine lv_dsub hx hb dX5_swing_160 hne ?_
                      refine zr_calld (zr_runS (As := [.double (FP.dsub x_95 x_97)]) hk hH hz hS hl.1 hw (va_cwS 1 hts (lw_S q3265 q3266 q143 q3267) rfl rfl rfl (by decide +kernel) (z_room (Nat.le_of_ble_eq_true rfl))) rfl rfl (Nat.le_of_ble_eq_true rfl) dX5_swing_161 ⟨Nat.le_of_ble_eq_true rfl, Nat.le_of_ble_eq_true rfl⟩) hS (fun x_105 hp_103 nx_104 hw H locs hH hz hS => ?_)
                      refine lv_dstore (lv' := [(14, .double x_105), (11, .int x_102), (0, va_rf (some h0)), (1, .int x1), (2, .int x2), (3, .int x3), (4, .int x_91), (5, .double x_92), (7, .int x_93), (8, .int x_94), (9, .double x_95), (12, .double x_97)]) hx hb dX5_swing_164 hl (by decide) (by first | rfl | simp [List.filter_cons, z_cat, z_catI, z_catJ, z_catF, z_catD]) (fun ls hl => ?_)
                      refine lv_iload hx hb dX5_swing_166 (lv_at hl 1 rfl) ?_
                      refine lv_if_ne (tgt := 196) hx hb dX5_swing_168 (by decide) (fun hc => ?_) (fun hc => ?_)
                      · have hw := hw.2 hc
                        exact hJ_196 x_91 x_92 x_93 x_94 hp_103 nx_104 _ _ _ hw (lv_sub hl [2, 3, 4, 5, 6, 7, 8, 9] rfl) hH hz hS
                      · have hw := hw.1 hc
                        refine lv_iload hx hb dX5_swing_171 (lv_at hl 6 rfl) ?_
                        refine lv_iconst (v := (-1 : Int32)) hx hb dX5_swing_173 (by decide) ?_
                        obtain ⟨P_188, hP_188, hw⟩ := hw
                        have hJ_188 : ∀ (x_106 : Int32) (x_107 : UInt64) (x_108 : Int32) (x_109 : Int32) (x_110 : UInt64) (x_111 : Int32) (x_112 : UInt64) (x_113 : UInt64) (hp_114 : zHp) (nx_115 : Nat) (H : Heap) (locs : List Loc) (ls : Array Slot), P_188 x_106 x_107 x_108 x_109 x_110 x_111 x_112 x_113 hp_114 nx_115 → lv_has ls 16 [(0, va_rf (some h0)), (1, .int x1), (2, .int x2), (3, .int x3), (4, .int x_106), (5, .double x_107), (7, .int x_108), (8, .int x_109), (9, .double x_110), (11, .int x_111), (12, .double x_112), (14, .double x_113)] → zHd g hp_114 H → H.size = nx_115 → va_S (zAd g) s.heap H locs → W p l e (zrm (d + 1) 0 0) s m ([.ref h0, .int x1, .int x2, .int x3] : List Value).toArray below meth c H locs 0 0 (MQ below (zQl g Post) ([.ref h0, .int x1, .int x2, .int x3] : List Value).toArray s 0 0 (zAd g)) (F0 m 188 ls []) := by
                          intro x_106 x_107 x_108 x_109 x_110 x_111 x_112 x_113 hp_114 nx_115 H locs ls hw hl hH hz hS
                          have hw := hP_188 x_106 x_107 x_108 x_109 x_110 x_111 x_112 x_113 hp_114 nx_115 hw
                          refine lv_iload hx hb dX5_swing_188 (lv_at hl 7 rfl) ?_
                          refine lv_istore (lv' := [(4, .int x_109), (0, va_rf (some h0)), (1, .int x1), (2, .int x2), (3, .int x3), (5, .double x_107), (7, .int x_108), (8, .int x_109), (9, .double x_110), (11, .int x_111), (12, .double x_112), (14, .double x_113)]) hx hb dX5_swing_190 hl (by decide) (by first | rfl | simp [List.filter_cons, z_cat, z_catI, z_catJ, z_catF, z_catD]) (fun ls hl => ?_)
                          refine lv_dload hx hb dX5_swing_192 (lv_at hl 11 rfl) ?_
                          refine lv_dstore (lv' := [(5, .double x_113), (4, .int x_109), (0, va_rf (some h0)), (1, .int x1), (2, .int x2), (3, .int x3), (7, .int x_108), (8, .int x_109), (9, .double x_110), (11, .int x_111), (12, .double x_112), (14, .double x_113)]) hx hb dX5_swing_194 hl (by decide) (by first | rfl | simp [List.filter_cons, z_cat, z_catI, z_catJ, z_catF, z_catD]) (fun ls hl => ?_)
                          exact hJ_196 x_109 x_113 x_108 x_109 hp_114 nx_115 _ _ _ hw (lv_sub hl [2, 3, 4, 5, 1, 0, 6, 7] rfl) hH hz hS
                        refine lv_icmp_eq (tgt := 188) hx hb dX5_swing_174 (by decide) (fun hc => ?_) (fun hc => ?_)
                        · have hw := hw.1 hc
                          exact hJ_188 x_91 x_92 x_93 x_94 x_95 x_102 x_97 x_105 hp_103 nx_104 _ _ _ hw (lv_sub hl [2, 3, 4, 5, 6, 7, 8, 9, 10, 1, 11, 0] rfl) hH hz hS
                        · have hw := hw.2 hc
                          refine lv_dload hx hb dX5_swing_177 (lv_at hl 0 rfl) ?_
                          refine lv_dload hx hb dX5_swing_179 (lv_at hl 7 rfl) ?_
                          refine lv_dcmp hx hb dX5_swing_181 ?_
                          refine lv_if_gt (tgt := 188) hx hb dX5_swing_182 (by decide) (fun hc => ?_) (fun hc => ?_)
                          · have hw := hw.1 hc
                            exact hJ_188 x_91 x_92 x_93 x_94 x_95 x_102 x_97 x_105 hp_103 nx_104 _ _ _ hw (lv_sub hl [2, 3, 4, 5, 6, 7, 8, 9, 10, 1, 11, 0] rfl) hH hz hS
                          · have hw := hw.2 hc
                            refine lv_goto (tgt := 196) hx hb dX5_swing_185 (by decide) ?_
                            exact hJ_196 x_91 x_92 x_93 x_94 hp_103 nx_104 _ _ _ hw (lv_sub hl [2, 3, 4, 5, 6, 7, 8, 9] rfl) hH hz hS
                    refine lv_if_eq (tgt := 152) hx hb dX5_swing_145 (by decide) (fun hc => ?_) (fun hc => ?_)
                    · have hw := hw.1 hc
                      refine lv_iconst (v := (0 : Int32)) hx hb dX5_swing_152 (by decide) ?_
                      exact hJ_153 x_69 x_70 x_71 x_72 x_73 x_74 x_87 x_74 (0 : Int32) hp_88 nx_89 _ _ _ hw (lv_sub hl [2, 3, 4, 5, 6, 7, 8, 9, 10, 1, 0] rfl) hH hz hS
                    · have hw := hw.2 hc
                      refine lv_iconst (v := (1 : Int32)) hx hb dX5_swing_148 (by decide) ?_
                      refine lv_goto (tgt := 153) hx hb dX5_swing_149 (by decide) ?_
                      exact hJ_153 x_69 x_70 x_71 x_72 x_73 x_74 x_87 x_74 (1 : Int32) hp_88 nx_89 _ _ _ hw (lv_sub hl [2, 3, 4, 5, 6, 7, 8, 9, 10, 1, 0] rfl) hH hz hS
                  refine lv_if_eq (tgt := 112) hx hb dX5_swing_105 (by decide) (fun hc => ?_) (fun hc => ?_)
                  · have hw := hw.1 hc
                    refine lv_iconst (v := (0 : Int32)) hx hb dX5_swing_112 (by decide) ?_
                    exact hJ_113 x_16 x_17 x_18 x_19 x_65 (0 : Int32) hp_66 nx_67 _ _ _ hw (lv_sub hl [1, 2, 3, 4, 5, 6, 7, 8, 0] rfl) hH hz hS
                  · have hw := hw.2 hc
                    refine lv_iconst (v := (1 : Int32)) hx hb dX5_swing_108 (by decide) ?_
                    refine lv_goto (tgt := 113) hx hb dX5_swing_109 (by decide) ?_
                    exact hJ_113 x_16 x_17 x_18 x_19 x_65 (1 : Int32) hp_66 nx_67 _ _ _ hw (lv_sub hl [1, 2, 3, 4, 5, 6, 7, 8, 0] rfl) hH hz hS
                · have hw := hw.1 hc
                  refine lv_goto (tgt := 196) hx hb dX5_swing_74 (by decide) ?_
                  exact hJ_196 x_16 x_17 x_18 x_19 hp_20 nx_21 _ _ _ hw hl hH hz hS
        exact hL_47 n_128 (-1 : Int32) x_12 x_15 (0 : Int32) hp_13 nx_14 _ _ _ hI (lv_sub hl [4, 5, 6, 7, 3, 2, 1, 0] rfl) hH hz hS
      · have hw := hw.1 hc
        exact hJ_27 hp_9 nx_10 _ _ _ hw hl hH hz hS
def wp_X5_chance (l : Launch) (g : zG) (d : Nat) (h0 : Nat) (x1 : Int32) (x2 : Int32) (x3 : Int32) (x4 : Int32) (x5 : Int32) (hp : zHp) (nx : Nat) (Post : Int32 → zHp → Nat → Prop) : Prop :=
  (zMt l g yX5_isCell cX5_isCell 1 (some .boolean) d 0 0 [.int x1] hp nx (zQi g fun x_3 hp_1 nx_2 =>
  (∃ P_35 : zHp → Nat → Prop, (∀ (hp_4 : zHp) (nx_5 : Nat), P_35 hp_4 nx_5 →
  (Post (-2 : Int32) hp_4 nx_5)) ∧
  ((x_3 = 0 →
  P_35 hp_1 nx_2) ∧
  (¬ x_3 = 0 →
  (zMt l g yX5_in cX5_in 3 (some .boolean) d 0 0 [.int x3, .int (1 : Int32), .int (20 : Int32)] hp_1 nx_2 (zQi g fun x_8 hp_6 nx_7 =>
  ((x_8 = 0 →
  P_35 hp_6 nx_7) ∧
  (¬ x_8 = 0 →
  (zMt l g yX5_isWanted cX5_isWanted 1 (some .boolean) d 0 0 [.int x4] hp_6 nx_7 (zQi g fun x_11 hp_9 nx_10 =>
  ((x_11 = 0 →
  P_35 hp_9 nx_10) ∧
  (¬ x_11 = 0 →
  (zMt l g yX5_in cX5_in 3 (some .boolean) d 0 0 [.int x5, .int (0 : Int32), .int (1 : Int32)] hp_9 nx_10 (zQi g fun x_14 hp_12 nx_13 =>
  ((x_14 = 0 →
  P_35 hp_12 nx_13) ∧
  (¬ x_14 = 0 →
  (zo hp_12 (some h0) [5] fun a_48 ci_49 fs_50 => zMt l g yX5_reads cX5_reads 3 (some .int) d 0 0 (.ref a_48 :: [.int x1]) hp_12 nx_13 (zQi g fun x_17 hp_15 nx_16 =>
  (∃ I_51 : Nat → Int32 → Int32 → Int32 → zHp → Nat → Prop, (∃ n_47, I_51 n_47 (0 : Int32) x_17 (0 : Int32) hp_15 nx_16) ∧ ∀ (n_23 : Nat) (x_18 : Int32) (x_19 : Int32) (x_20 : Int32) (hp_21 : zHp) (nx_22 : Nat), I_51 n_23 x_18 x_19 x_20 hp_21 nx_22 →
  ((x3 ≤ x_20 →
  (∃ P_98 : Int32 → Int32 → Int32 → Int32 → zHp → Nat → Prop, (∀ (x_24 : Int32) (x_25 : Int32) (x_26 : Int32) (x_27 : Int32) (hp_28 : zHp) (nx_29 : Nat), P_98 x_24 x_25 x_26 x_27 hp_28 nx_29 →
  (zMt l g yX5_common cX5_common 2 (some .int) d 0 0 [.int x_24, .int x3] hp_28 nx_29 (zQi g fun x_32 hp_30 nx_31 =>
  (¬ x_32 = 0 ∧ (Post (x_27 / x_32) hp_30 nx_31))))) ∧
  ((x5 = 0 →
  P_98 x_18 x_19 x_20 x_18 hp_21 nx_22) ∧
  (¬ x5 = 0 →
  P_98 x_18 x_19 x_20 x3 hp_21 nx_22)))) ∧
  (¬ x3 ≤ x_20 →
  (vf_n64 (FP.ddiv (FP.i2d x4) (4620693217682128896 : UInt64)) ∧ (zo hp_21 (some h0) [5] fun a_44 ci_45 fs_46 => zMt l g yX5_isSoByLot cX5_isSoByLot 10 (some .boolean) d 0 0 (.ref a_44 :: [.int x1, .int x_19, .int (x2 + x_20), .double (FP.ddiv (FP.i2d x4) (4620693217682128896 : UInt64))]) hp_21 nx_22 (zQi g fun x_35 hp_33 nx_34 =>
  (∃ P_81 : Int32 → Int32 → Int32 → zHp → Nat → Prop, (∀ (x_36 : Int32) (x_37 : Int32) (x_38 : Int32) (hp_39 : zHp) (nx_40 : Nat), P_81 x_36 x_37 x_38 hp_39 nx_40 →
  (∀ x_41 : Int32, x_41 = x_38 + (1 : Int32) →
  (∃ k_42, k_42 < n_23 ∧ I_51 k_42 x_36 x_37 x_41 hp_39 nx_40))) ∧
  ((x_35 = 0 →
  P_81 x_18 x_19 x_20 hp_33 nx_34) ∧
  (¬ x_35 = 0 →
  (∀ x_43 : Int32, x_43 = x_18 + (1 : Int32) →
  P_81 x_43 x_19 x_20 hp_33 nx_34)))))))))))))))))))))))))))))
set_option maxHeartbeats 40000000 in
theorem met_X5_chance {l : Launch} {g : zG} {d : Nat} {h0 : Nat} {x1 : Int32} {x2 : Int32} {x3 : Int32} {x4 : Int32} {x5 : Int32} {hp : zHp} {nx : Nat} {Post : Int32 → zHp → Nat → Prop} (hw : wp_X5_chance l g d h0 x1 x2 x3 x4 x5 hp nx Post) : zMt l g yX5_chance cX5_chance 9 (some .int) (d + 1) 0 0 [.ref h0, .int x1, .int x2, .int x3, .int x4, .int x5] hp nx (zQi g Post) := by
  refine z_start (by decide) (Nat.le_of_ble_eq_true rfl) ?_
  intro p e s m below meth c hk hr hin hH hz ls hl
  have hx := hk.1.1
  have hb := hk.1.2.1
  have hown := hk.1.2.2.2.1
  have hts := hk.1.2.2.2.2
  have hS : va_S (zAd g) s.heap s.heap [] := va_S.rf
  have hl : lv_has ls 9 [(0, va_rf (some h0)), (1, .int x1), (2, .int x2), (3, .int x3), (4, .int x4), (5, .int x5)] := hl
  unfold wp_X5_chance at hw
  refine lv_iload_n hx hb dX5_chance_0 rfl (lv_at hl 1 rfl) ?_
  refine zr_calli (zr_runS (As := [.int x1]) hk hH hz hS hl.1 hw (va_cwS 1 hts (lw_S q2908 q2909 q162 q2910) rfl rfl rfl (by decide +kernel) (z_room (Nat.le_of_ble_eq_true rfl))) rfl rfl (Nat.le_of_ble_eq_true rfl) dX5_chance_1 ⟨Nat.le_of_ble_eq_true rfl, Nat.le_of_ble_eq_true rfl⟩) hS (fun x_3 hp_1 nx_2 hw H locs hH hz hS => ?_)
  obtain ⟨P_35, hP_35, hw⟩ := hw
  have hJ_35 : ∀ (hp_4 : zHp) (nx_5 : Nat) (H : Heap) (locs : List Loc) (ls : Array Slot), P_35 hp_4 nx_5 → lv_has ls 9 [(0, va_rf (some h0)), (1, .int x1), (2, .int x2), (3, .int x3), (4, .int x4), (5, .int x5)] → zHd g hp_4 H → H.size = nx_5 → va_S (zAd g) s.heap H locs → W p l e (zrm (d + 1) 0 0) s m ([.ref h0, .int x1, .int x2, .int x3, .int x4, .int x5] : List Value).toArray below meth c H locs 0 0 (MQ below (zQi g Post) ([.ref h0, .int x1, .int x2, .int x3, .int x4, .int x5] : List Value).toArray s 0 0 (zAd g)) (F0 m 35 ls []) := by
    intro hp_4 nx_5 H locs ls hw hl hH hz hS
    have hw := hP_35 hp_4 nx_5 hw
    refine lv_bipush (v := (-2 : Int32)) hx hb dX5_chance_35 (by decide) ?_
    exact zr_iret hk hr hH hz hS hw (Nat.le_of_ble_eq_true rfl) (Nat.le_of_ble_eq_true rfl) dX5_chance_37
  refine lv_if_eq (tgt := 35) hx hb dX5_chance_4 (by decide) (fun hc => ?_) (fun hc => ?_)
  · have hw := hw.1 hc
    exact hJ_35 hp_1 nx_2 _ _ _ hw hl hH hz hS
  · have hw := hw.2 hc
    refine lv_iload_n hx hb dX5_chance_7 rfl (lv_at hl 3 rfl) ?_
    refine lv_iconst (v := (1 : Int32)) hx hb dX5_chance_8 (by decide) ?_
    refine lv_bipush (v := (20 : Int32)) hx hb dX5_chance_9 (by decide) ?_
    refine zr_calli (zr_runS (As := [.int x3, .int (1 : Int32), .int (20 : Int32)]) hk hH hz hS hl.1 hw (va_cwS 3 hts (lw_S q2911 q2912 q162 q2913) rfl rfl rfl (by decide +kernel) (z_room (Nat.le_of_ble_eq_true rfl))) rfl rfl (Nat.le_of_ble_eq_true rfl) dX5_chance_11 ⟨Nat.le_of_ble_eq_true rfl, Nat.le_of_ble_eq_true rfl⟩) hS (fun x_8 hp_6 nx_7 hw H locs hH hz hS => ?_)
    refine lv_if_eq (tgt := 35) hx hb dX5_chance_14 (by decide) (fun hc => ?_) (fun hc => ?_)
    · have hw := hw.1 hc
      exact hJ_35 hp_6 nx_7 _ _ _ hw hl hH hz hS
    · have hw := hw.2 hc
      refine lv_iload hx hb dX5_chance_17 (lv_at hl 4 rfl) ?_
      refine zr_calli (zr_runS (As := [.int x4]) hk hH hz hS hl.1 hw (va_cwS 1 hts (lw_S q3249 q3250 q162 q3251) rfl rfl rfl (by decide +kernel) (z_room (Nat.le_of_ble_eq_true rfl))) rfl rfl (Nat.le_of_ble_eq_true rfl) dX5_chance_19 ⟨Nat.le_of_ble_eq_true rfl, Nat.le_of_ble_eq_true rfl⟩) hS (fun x_11 hp_9 nx_10 hw H locs hH hz hS => ?_)
      refine lv_if_eq (tgt := 35) hx hb dX5_chance_22 (by decide) (fun hc => ?_) (fun hc => ?_)
      · have hw := hw.1 hc
        exact hJ_35 hp_9 nx_10 _ _ _ hw hl hH hz hS
      · have hw := hw.2 hc
        refine lv_iload hx hb dX5_chance_25 (lv_at hl 5 rfl) ?_
        refine lv_iconst (v := (0 : Int32)) hx hb dX5_chance_27 (by decide) ?_
        refine lv_iconst (v := (1 : Int32)) hx hb dX5_chance_28 (by decide) ?_
        refine zr_calli (zr_runS (As := [.int x5, .int (0 : Int32), .int (1 : Int32)]) hk hH hz hS hl.1 hw (va_cwS 3 hts (lw_S q2911 q2912 q162 q2913) rfl rfl rfl (by decide +kernel) (z_room (Nat.le_of_ble_eq_true rfl))) rfl rfl (Nat.le_of_ble_eq_true rfl) dX5_chance_29 ⟨Nat.le_of_ble_eq_true rfl, Nat.le_of_ble_eq_true rfl⟩) hS (fun x_14 hp_12 nx_13 hw H locs hH hz hS => ?_)
        refine lv_if_ne (tgt := 38) hx hb dX5_chance_32 (by decide) (fun hc => ?_) (fun hc => ?_)
        · have hw := hw.2 hc
          refine lv_iconst (v := (0 : Int32)) hx hb dX5_chance_38 (by decide) ?_
          refine lv_istore (lv' := [(6, .int (0 : Int32)), (0, va_rf (some h0)), (1, .int x1), (2, .int x2), (3, .int x3), (4, .int x4), (5, .int x5)]) hx hb dX5_chance_39 hl (by decide) (by first | rfl | simp [List.filter_cons, z_cat, z_catI, z_catJ, z_catF, z_catD]) (fun ls hl => ?_)
          refine zr_aload_n (r := some h0) hx hb dX5_chance_41 rfl (lv_at hl 1 rfl) ?_
          refine lv_iload_n hx hb dX5_chance_42 rfl (lv_at hl 2 rfl) ?_
          obtain ⟨a_48, ci_49, fs_50, er, he, hc, hw⟩ := zo_e hw
          obtain rfl := List.mem_singleton.mp hc
          refine zr_calli (zw_runV (As := [.int x1]) hk hH hz hS hl.1 er hw (cwV 1 hts (lw_V q2949 q2951 qs71 q162 q2952) rfl rfl rfl (by decide +kernel) (z_room (Nat.le_of_ble_eq_true rfl))) he rfl rfl rfl (Nat.le_of_ble_eq_true rfl) dX5_chance_43 ⟨Nat.le_of_ble_eq_true rfl, Nat.le_of_ble_eq_true rfl⟩) hS (fun x_17 hp_15 nx_16 hw H locs hH hz hS => ?_)
          refine lv_istore (lv' := [(7, .int x_17), (6, .int (0 : Int32)), (0, va_rf (some h0)), (1, .int x1), (2, .int x2), (3, .int x3), (4, .int x4), (5, .int x5)]) hx hb dX5_chance_46 hl (by decide) (by first | rfl | simp [List.filter_cons, z_cat, z_catI, z_catJ, z_catF, z_catD]) (fun ls hl => ?_)
          refine lv_iconst (v := (0 : Int32)) hx hb dX5_chance_48 (by decide) ?_
          refine lv_istore (lv' := [(8, .int (0 : Int32)), (7, .int x_17), (6, .int (0 : Int32)), (0, va_rf (some h0)), (1, .int x1), (2, .int x2), (3, .int x3), (4, .int x4), (5, .int x5)]) hx hb dX5_chance_49 hl (by decide) (by first | rfl | simp [List.filter_cons, z_cat, z_catI, z_catJ, z_catF, z_catD]) (fun ls hl => ?_)
          obtain ⟨I_51, ⟨n_47, hI⟩, hB_51⟩ := hw
          have hL_51 : ∀ (n_23 : Nat) (x_18 : Int32) (x_19 : Int32) (x_20 : Int32) (hp_21 : zHp) (nx_22 : Nat) (H : Heap) (locs : List Loc) (ls : Array Slot), I_51 n_23 x_18 x_19 x_20 hp_21 nx_22 → lv_has ls 9 [(0, va_rf (some h0)), (1, .int x1), (2, .int x2), (3, .int x3), (4, .int x4), (5, .int x5), (6, .int x_18), (7, .int x_19), (8, .int x_20)] → zHd g hp_21 H → H.size = nx_22 → va_S (zAd g) s.heap H locs → W p l e (zrm (d + 1) 0 0) s m ([.ref h0, .int x1, .int x2, .int x3, .int x4, .int x5] : List Value).toArray below meth c H locs 0 0 (MQ below (zQi g Post) ([.ref h0, .int x1, .int x2, .int x3, .int x4, .int x5] : List Value).toArray s 0 0 (zAd g)) (F0 m 51 ls []) := by
            intro n_23
            induction n_23 using Nat.strongRecOn with
            | _ n_23 ih_51 =>
              intro x_18 x_19 x_20 hp_21 nx_22 H locs ls hw hl hH hz hS
              have hw := hB_51 n_23 x_18 x_19 x_20 hp_21 nx_22 hw
              refine lv_iload hx hb dX5_chance_51 (lv_at hl 8 rfl) ?_
              refine lv_iload_n hx hb dX5_chance_53 rfl (lv_at hl 3 rfl) ?_
              refine lv_icmp_ge (tgt := 87) hx hb dX5_chance_54 (by decide) (fun hc => ?_) (fun hc => ?_)
              · have hw := hw.1 hc
                refine lv_iload hx hb dX5_chance_87 (lv_at hl 5 rfl) ?_
                obtain ⟨P_98, hP_98, hw⟩ := hw
                have hJ_98 : ∀ (x_24 : Int32) (x_25 : Int32) (x_26 : Int32) (x_27 : Int32) (hp_28 : zHp) (nx_29 : Nat) (H : Heap) (locs : List Loc) (ls : Array Slot), P_98 x_24 x_25 x_26 x_27 hp_28 nx_29 → lv_has ls 9 [(0, va_rf (some h0)), (1, .int x1), (2, .int x2), (3, .int x3), (4, .int x4), (5, .int x5), (6, .int x_24), (7, .int x_25), (8, .int x_26)] → zHd g hp_28 H → H.size = nx_29 → va_S (zAd g) s.heap H locs → W p l e (zrm (d + 1) 0 0) s m ([.ref h0, .int x1, .int x2, .int x3, .int x4, .int x5] : List Value).toArray below meth c H locs 0 0 (MQ below (zQi g Post) ([.ref h0, .int x1, .int x2, .int x3, .int x4, .int x5] : List Value).toArray s 0 0 (zAd g)) (F0 m 98 ls [.int x_27]) := by
                  intro x_24 x_25 x_26 x_27 hp_28 nx_29 H locs ls hw hl hH hz hS
                  have hw := hP_98 x_24 x_25 x_26 x_27 hp_28 nx_29 hw
                  refine lv_iload hx hb dX5_chance_98 (lv_at hl 6 rfl) ?_
                  refine lv_iload_n hx hb dX5_chance_100 rfl (lv_at hl 3 rfl) ?_
                  refine zr_calli (zr_runS (As := [.int x_24, .int x3]) hk hH hz hS hl.1 hw (va_cwS 2 hts (lw_S q3287 q3288 q162 q3289) rfl rfl rfl (by decide +kernel) (z_room (Nat.le_of_ble_eq_true rfl))) rfl rfl (Nat.le_of_ble_eq_true rfl) dX5_chance_101 ⟨Nat.le_of_ble_eq_true rfl, Nat.le_of_ble_eq_true rfl⟩) hS (fun x_32 hp_30 nx_31 hw H locs hH hz hS => ?_)
                  obtain ⟨hne, hw⟩ := hw
                  refine lv_idiv hx hb dX5_chance_104 hne ?_
                  exact zr_iret hk hr hH hz hS hw (Nat.le_of_ble_eq_true rfl) (Nat.le_of_ble_eq_true rfl) dX5_chance_105
                refine lv_if_ne (tgt := 97) hx hb dX5_chance_89 (by decide) (fun hc => ?_) (fun hc => ?_)
                · have hw := hw.2 hc
                  refine lv_iload_n hx hb dX5_chance_97 rfl (lv_at hl 3 rfl) ?_
                  exact hJ_98 x_18 x_19 x_20 x3 hp_21 nx_22 _ _ _ hw hl hH hz hS
                · have hw := hw.1 hc
                  refine lv_iload hx hb dX5_chance_92 (lv_at hl 6 rfl) ?_
                  refine lv_goto (tgt := 98) hx hb dX5_chance_94 (by decide) ?_
                  exact hJ_98 x_18 x_19 x_20 x_18 hp_21 nx_22 _ _ _ hw hl hH hz hS
              · have hw := hw.2 hc
                refine zr_aload_n (r := some h0) hx hb dX5_chance_57 rfl (lv_at hl 0 rfl) ?_
                refine lv_iload_n hx hb dX5_chance_58 rfl (lv_at hl 1 rfl) ?_
                refine lv_iload hx hb dX5_chance_59 (lv_at hl 7 rfl) ?_
                refine lv_iload_n hx hb dX5_chance_61 rfl (lv_at hl 2 rfl) ?_
                refine lv_iload hx hb dX5_chance_62 (lv_at hl 8 rfl) ?_
                refine lv_iadd hx hb dX5_chance_64 ?_
                refine lv_iload hx hb dX5_chance_65 (lv_at hl 4 rfl) ?_
                refine lv_i2d hx hb dX5_chance_67 ?_
                refine lv_ldc2d hx hb hown (hts _ q2923) dX5_chance_68 ?_
                obtain ⟨hne, hw⟩ := hw
                refine lv_ddiv hx hb dX5_chance_71 hne ?_
                obtain ⟨a_44, ci_45, fs_46, er, he, hc, hw⟩ := zo_e hw
                obtain rfl := List.mem_singleton.mp hc
                refine zr_calli (zw_runV (As := [.int x1, .int x_19, .int (x2 + x_20), .double (FP.ddiv (FP.i2d x4) (4620693217682128896 : UInt64))]) hk hH hz hS hl.1 er hw (cwV 4 hts (lw_V q3282 q3284 qs124 q162 q3285) rfl rfl rfl (by decide +kernel) (z_room (Nat.le_of_ble_eq_true rfl))) he rfl rfl rfl (Nat.le_of_ble_eq_true rfl) dX5_chance_72 ⟨Nat.le_of_ble_eq_true rfl, Nat.le_of_ble_eq_true rfl⟩) hS (fun x_35 hp_33 nx_34 hw H locs hH hz hS => ?_)
                obtain ⟨P_81, hP_81, hw⟩ := hw
                have hJ_81 : ∀ (x_36 : Int32) (x_37 : Int32) (x_38 : Int32) (hp_39 : zHp) (nx_40 : Nat) (H : Heap) (locs : List Loc) (ls : Array Slot), P_81 x_36 x_37 x_38 hp_39 nx_40 → lv_has ls 9 [(0, va_rf (some h0)), (1, .int x1), (2, .int x2), (3, .int x3), (4, .int x4), (5, .int x5), (6, .int x_36), (7, .int x_37), (8, .int x_38)] → zHd g hp_39 H → H.size = nx_40 → va_S (zAd g) s.heap H locs → W p l e (zrm (d + 1) 0 0) s m ([.ref h0, .int x1, .int x2, .int x3, .int x4, .int x5] : List Value).toArray below meth c H locs 0 0 (MQ below (zQi g Post) ([.ref h0, .int x1, .int x2, .int x3, .int x4, .int x5] : List Value).toArray s 0 0 (zAd g)) (F0 m 81 ls []) := by
                  intro x_36 x_37 x_38 hp_39 nx_40 H locs ls hw hl hH hz hS
                  have hw := hP_81 x_36 x_37 x_38 hp_39 nx_40 hw
                  obtain ⟨x_41, ex_41⟩ : ∃ y : Int32, y = x_38 + (1 : Int32) := ⟨_, rfl⟩
                  have hw := hw x_41 ex_41
                  refine lv_iinc (v := x_41) (lv' := [(8, .int x_41), (0, va_rf (some h0)), (1, .int x1), (2, .int x2), (3, .int x3), (4, .int x4), (5, .int x5), (6, .int x_36), (7, .int x_37)]) hx hb dX5_chance_81 hl (k := 8) rfl (by rw [ex_41]; rfl) (by decide) (by first | rfl | simp [List.filter_cons, z_cat, z_catI, z_catJ, z_catF, z_catD]) (fun ls hl => ?_)
                  refine lv_goto (tgt := 51) hx hb dX5_chance_84 (by decide) ?_
                  obtain ⟨k_42, hlt, hw⟩ := hw
                  exact ih_51 k_42 hlt x_36 x_37 x_41 hp_39 nx_40 _ _ _ hw (lv_sub hl [1, 2, 3, 4, 5, 6, 7, 8, 0] rfl) hH hz hS
                refine lv_if_eq (tgt := 81) hx hb dX5_chance_75 (by decide) (fun hc => ?_) (fun hc => ?_)
                · have hw := hw.1 hc
                  exact hJ_81 x_18 x_19 x_20 hp_33 nx_34 _ _ _ hw hl hH hz hS
                · have hw := hw.2 hc
                  obtain ⟨x_43, ex_43⟩ : ∃ y : Int32, y = x_18 + (1 : Int32) := ⟨_, rfl⟩
                  have hw := hw x_43 ex_43
                  refine lv_iinc (v := x_43) (lv' := [(6, .int x_43), (0, va_rf (some h0)), (1, .int x1), (2, .int x2), (3, .int x3), (4, .int x4), (5, .int x5), (7, .int x_19), (8, .int x_20)]) hx hb dX5_chance_78 hl (k := 6) rfl (by rw [ex_43]; rfl) (by decide) (by first | rfl | simp [List.filter_cons, z_cat, z_catI, z_catJ, z_catF, z_catD]) (fun ls hl => ?_)
                  exact hJ_81 x_43 x_19 x_20 hp_33 nx_34 _ _ _ hw (lv_sub hl [1, 2, 3, 4, 5, 6, 0, 7, 8] rfl) hH hz hS
          exact hL_51 n_47 (0 : Int32) x_17 (0 : Int32) hp_15 nx_16 _ _ _ hI (lv_sub hl [3, 4, 5, 6, 7, 8, 2, 1, 0] rfl) hH hz hS
        · have hw := hw.1 hc
          exact hJ_35 hp_12 nx_13 _ _ _ hw hl hH hz hS
theorem fk_X5_123 {ci : Nat} (h : ci ∈ [5]) : zFk "WhatIfSheetModel" 123 ci 55 := by
  simp only [List.mem_cons, List.not_mem_nil, or_false] at h
  rcases h with rfl
  · exact ⟨RX5, TX5, 76, rfl, by decide, q2729⟩
theorem fk_X5_126 {ci : Nat} (h : ci ∈ [5]) : zFk "WhatIfSheetModel" 126 ci 56 := by
  simp only [List.mem_cons, List.not_mem_nil, or_false] at h
  rcases h with rfl
  · exact ⟨RX5, TX5, 76, rfl, by decide, q2730⟩
def wp_X5_isSoByLot (l : Launch) (g : zG) (d : Nat) (h0 : Nat) (x1 : Int32) (x2 : Int32) (x3 : Int32) (x4 : UInt64) (hp : zHp) (nx : Nat) (Post : Int32 → zHp → Nat → Prop) : Prop :=
  (zgR hp (some h0) [5] 2 fun r_4 =>
  (zgR hp (some h0) [5] 55 fun r_8 =>
  (zaD (g.2.1 1) hp r_4 fun a_9 n_11 f_13 => zaD (g.2.1 1) hp r_8 fun a_10 n_12 f_14 => zB g ≤ a_10 ∧ ¬ (0 : Int32) < 0 ∧ ¬ (0 : Int32) < 0 ∧ ¬ (24 : Int32) < 0 ∧ (0 : Int32).toNatClampNeg + (24 : Int32).toNatClampNeg ≤ n_11 ∧ (0 : Int32).toNatClampNeg + (24 : Int32).toNatClampNeg ≤ n_12 ∧ (∀ i, i < (24 : Int32).toNatClampNeg → fits .double (.double (f_13 ((0 : Int32).toNatClampNeg + i))) = true) ∧ ∀ hp_15 : zHp, hp_15 = va_up hp a_10 (some (.inl (g.2.1 1, n_12, .inr (.inr (.inr (.inl (va_cpy f_13 f_14 (0 : Int32).toNatClampNeg (0 : Int32).toNatClampNeg (24 : Int32).toNatClampNeg))))))) →
  (zgR hp_15 (some h0) [5] 1 fun r_19 =>
  (zgR hp_15 (some h0) [5] 56 fun r_23 =>
  (zaI (g.2.1 3) hp_15 r_19 fun a_24 n_26 f_28 => zaI (g.2.1 3) hp_15 r_23 fun a_25 n_27 f_29 => zB g ≤ a_25 ∧ ¬ (0 : Int32) < 0 ∧ ¬ (0 : Int32) < 0 ∧ ¬ (24 : Int32) < 0 ∧ (0 : Int32).toNatClampNeg + (24 : Int32).toNatClampNeg ≤ n_26 ∧ (0 : Int32).toNatClampNeg + (24 : Int32).toNatClampNeg ≤ n_27 ∧ (∀ i, i < (24 : Int32).toNatClampNeg → fits .boolean (.int (f_28 ((0 : Int32).toNatClampNeg + i))) = true) ∧ ∀ hp_30 : zHp, hp_30 = va_up hp_15 a_25 (some (.inl (g.2.1 3, n_27, .inl (va_cpy f_28 f_29 (0 : Int32).toNatClampNeg (0 : Int32).toNatClampNeg (24 : Int32).toNatClampNeg)))) →
  (∃ I_36 : Nat → Int32 → Int32 → zHp → Nat → Prop, (∃ n_110, I_36 n_110 x3 (0 : Int32) hp_30 nx) ∧ ∀ (n_35 : Nat) (x_31 : Int32) (x_32 : Int32) (hp_33 : zHp) (nx_34 : Nat), I_36 n_35 x_31 x_32 hp_33 nx_34 →
  (((24 : Int32) ≤ x_32 →
  (zo hp_33 (some h0) [5] fun a_84 ci_85 fs_86 => zMt l g yX5_valueNow cX5_valueNow 2 (some .double) d 0 0 (.ref a_84 :: [.int x1]) hp_33 nx_34 (zQd g fun x_38 hp_36 nx_37 =>
  (zo hp_36 (some h0) [5] fun a_81 ci_82 fs_83 => zMt l g yX5_errorOf cX5_errorOf 2 (some .int) d 0 0 (.ref a_81 :: [.int x1]) hp_36 nx_37 (zQi g fun x_41 hp_39 nx_40 =>
  (∃ P_134 : Int32 → UInt64 → Int32 → zHp → Nat → Prop, (∀ (x_42 : Int32) (x_43 : UInt64) (x_44 : Int32) (hp_45 : zHp) (nx_46 : Nat), P_134 x_42 x_43 x_44 hp_45 nx_46 →
  (zgR hp_45 (some h0) [5] 55 fun r_50 =>
  (zgR hp_45 (some h0) [5] 2 fun r_54 =>
  (zaD (g.2.1 1) hp_45 r_50 fun a_55 n_57 f_59 => zaD (g.2.1 1) hp_45 r_54 fun a_56 n_58 f_60 => zB g ≤ a_56 ∧ ¬ (0 : Int32) < 0 ∧ ¬ (0 : Int32) < 0 ∧ ¬ (24 : Int32) < 0 ∧ (0 : Int32).toNatClampNeg + (24 : Int32).toNatClampNeg ≤ n_57 ∧ (0 : Int32).toNatClampNeg + (24 : Int32).toNatClampNeg ≤ n_58 ∧ (∀ i, i < (24 : Int32).toNatClampNeg → fits .double (.double (f_59 ((0 : Int32).toNatClampNeg + i))) = true) ∧ ∀ hp_61 : zHp, hp_61 = va_up hp_45 a_56 (some (.inl (g.2.1 1, n_58, .inr (.inr (.inr (.inl (va_cpy f_59 f_60 (0 : Int32).toNatClampNeg (0 : Int32).toNatClampNeg (24 : Int32).toNatClampNeg))))))) →
  (zgR hp_61 (some h0) [5] 56 fun r_65 =>
  (zgR hp_61 (some h0) [5] 1 fun r_69 =>
  (zaI (g.2.1 3) hp_61 r_65 fun a_70 n_72 f_74 => zaI (g.2.1 3) hp_61 r_69 fun a_71 n_73 f_75 => zB g ≤ a_71 ∧ ¬ (0 : Int32) < 0 ∧ ¬ (0 : Int32) < 0 ∧ ¬ (24 : Int32) < 0 ∧ (0 : Int32).toNatClampNeg + (24 : Int32).toNatClampNeg ≤ n_72 ∧ (0 : Int32).toNatClampNeg + (24 : Int32).toNatClampNeg ≤ n_73 ∧ (∀ i, i < (24 : Int32).toNatClampNeg → fits .boolean (.int (f_74 ((0 : Int32).toNatClampNeg + i))) = true) ∧ ∀ hp_76 : zHp, hp_76 = va_up hp_61 a_71 (some (.inl (g.2.1 3, n_73, .inl (va_cpy f_74 f_75 (0 : Int32).toNatClampNeg (0 : Int32).toNatClampNeg (24 : Int32).toNatClampNeg)))) →
  (((x_44 = 0 ∨ x_44 = 1) ∧ Post x_44 hp_76 nx_46))))))))) ∧
  (∃ P_133 : Int32 → UInt64 → zHp → Nat → Prop, (∀ (x_77 : Int32) (x_78 : UInt64) (hp_79 : zHp) (nx_80 : Nat), P_133 x_77 x_78 hp_79 nx_80 →
  P_134 x_77 x_78 (0 : Int32) hp_79 nx_80) ∧
  ((x_41 = 0 →
  (((Op.cmpValue (FP.dcmp x_38 x4) .l) < 0 →
  P_133 x_31 x_38 hp_39 nx_40) ∧
  (¬ (Op.cmpValue (FP.dcmp x_38 x4) .l) < 0 →
  P_134 x_31 x_38 (1 : Int32) hp_39 nx_40))) ∧
  (¬ x_41 = 0 →
  P_133 x_31 x_38 hp_39 nx_40))))))))) ∧
  (¬ (24 : Int32) ≤ x_32 →
  (∃ P_100 : Int32 → Int32 → zHp → Nat → Prop, (∀ (x_87 : Int32) (x_88 : Int32) (hp_89 : zHp) (nx_90 : Nat), P_100 x_87 x_88 hp_89 nx_90 →
  (∀ x_91 : Int32, x_91 = x_88 + (1 : Int32) →
  (∃ k_92, k_92 < n_35 ∧ I_36 k_92 x_87 x_91 hp_89 nx_90))) ∧
  ((((x2 >>> (x_32 &&& 31)) &&& (1 : Int32)) = 0 →
  P_100 x_31 x_32 hp_33 nx_34) ∧
  (¬ ((x2 >>> (x_32 &&& 31)) &&& (1 : Int32)) = 0 →
  (∀ x_93 : Int32, x_93 = (x_31 * (1103515245 : Int32)) + (12345 : Int32) →
  (zgR hp_33 (some h0) [5] 2 fun r_97 =>
  (¬ (401 : Int32) = 0 ∧ (vf_n64 (FP.ddiv (FP.i2d ((((x_93.toUInt32 >>> ((9 : Int32).toUInt32 &&& Int32.toUInt32 31)).toInt32) - ((x_93.toUInt32 >>> ((9 : Int32).toUInt32 &&& Int32.toUInt32 31)).toInt32) / (401 : Int32) * (401 : Int32)) - (200 : Int32))) (4620693217682128896 : UInt64)) ∧ (zaD (g.2.1 1) hp_33 r_97 fun a_98 n_99 f_100 => vp_in x_32 n_99 ∧ zB g ≤ a_98 ∧ ∀ hp_101 : zHp, hp_101 = va_up hp_33 a_98 (some (.inl (g.2.1 1, n_99, .inr (.inr (.inr (.inl (va_up f_100 x_32.toNatClampNeg (FP.ddiv (FP.i2d ((((x_93.toUInt32 >>> ((9 : Int32).toUInt32 &&& Int32.toUInt32 31)).toInt32) - ((x_93.toUInt32 >>> ((9 : Int32).toUInt32 &&& Int32.toUInt32 31)).toInt32) / (401 : Int32) * (401 : Int32)) - (200 : Int32))) (4620693217682128896 : UInt64))))))))) →
  (zgR hp_101 (some h0) [5] 1 fun r_105 =>
  (zaI (g.2.1 3) hp_101 r_105 fun a_106 n_107 f_108 => vp_in x_32 n_107 ∧ zB g ≤ a_106 ∧ ∀ hp_109 : zHp, hp_109 = va_up hp_101 a_106 (some (.inl (g.2.1 3, n_107, .inl (va_up f_108 x_32.toNatClampNeg (vp_nar .boolean (1 : Int32)))))) →
  P_100 x_93 x_32 hp_109 nx_34)))))))))))))))))))
set_option maxHeartbeats 40000000 in
theorem met_X5_isSoByLot {l : Launch} {g : zG} {d : Nat} {h0 : Nat} {x1 : Int32} {x2 : Int32} {x3 : Int32} {x4 : UInt64} {hp : zHp} {nx : Nat} {Post : Int32 → zHp → Nat → Prop} (hw : wp_X5_isSoByLot l g d h0 x1 x2 x3 x4 hp nx Post) : zMt l g yX5_isSoByLot cX5_isSoByLot 10 (some .boolean) (d + 1) 0 0 [.ref h0, .int x1, .int x2, .int x3, .double x4] hp nx (zQi g Post) := by
  refine z_start (by decide) (Nat.le_of_ble_eq_true rfl) ?_
  intro p e s m below meth c hk hr hin hH hz ls hl
  have hx := hk.1.1
  have hb := hk.1.2.1
  have hown := hk.1.2.2.2.1
  have hts := hk.1.2.2.2.2
  have hS : va_S (zAd g) s.heap s.heap [] := va_S.rf
  have hl : lv_has ls 10 [(0, va_rf (some h0)), (1, .int x1), (2, .int x2), (3, .int x3), (4, .double x4)] := hl
  unfold wp_X5_isSoByLot at hw
  refine zr_aload_n (r := some h0) hx hb dX5_isSoByLot_0 rfl (lv_at hl 0 rfl) ?_
  obtain ⟨a_1, ci_2, fs_3, r_4, er, he, hc, hv, hw⟩ := zgR_e hw
  refine zw_get hk hH er he hv (fk_X5_17 hc) dX5_isSoByLot_1 ?_
  refine lv_iconst (v := (0 : Int32)) hx hb dX5_isSoByLot_4 (by decide) ?_
  refine zr_aload_n (r := some h0) hx hb dX5_isSoByLot_5 rfl (lv_at hl 0 rfl) ?_
  obtain ⟨a_5, ci_6, fs_7, r_8, er, he, hc, hv, hw⟩ := zgR_e hw
  refine zw_get hk hH er he hv (fk_X5_123 hc) dX5_isSoByLot_6 ?_
  refine lv_iconst (v := (0 : Int32)) hx hb dX5_isSoByLot_9 (by decide) ?_
  refine lv_bipush (v := (24 : Int32)) hx hb dX5_isSoByLot_10 (by decide) ?_
  obtain ⟨a_9, n_11, f_13, er0, he0, hw⟩ := zaD_e hw
  obtain ⟨a_10, n_12, f_14, er1, he1, hA, h1, h2, h3, h4, h5, hft, hw⟩ := zaD_e hw
  obtain ⟨hp_15, eh⟩ : ∃ y : zHp, y = va_up hp a_10 (some (.inl (g.2.1 1, n_12, .inr (.inr (.inr (.inl (va_cpy f_13 f_14 (0 : Int32).toNatClampNeg (0 : Int32).toNatClampNeg (24 : Int32).toNatClampNeg))))))) := ⟨_, rfl⟩
  have hw := hw hp_15 eh
  refine zw_copyD (r0 := r_4) (r1 := r_8) (ty := .double) hk hH hz hS hl.1 q3171 q432 q431 q145 1 er0 er1 he0 he1 rfl rfl hA h1 h2 h3 h4 h5 hft eh (Nat.le_add_left 1 d) (Nat.le_trans (Nat.le_of_ble_eq_true rfl : _ ≤ 64) (by show 64 ≤ 64 * (d + 1); omega)) dX5_isSoByLot_12 (fun H locs hH hz hS => ?_)
  refine zr_aload_n (r := some h0) hx hb dX5_isSoByLot_15 rfl (lv_at hl 0 rfl) ?_
  obtain ⟨a_16, ci_17, fs_18, r_19, er, he, hc, hv, hw⟩ := zgR_e hw
  refine zw_get hk hH er he hv (fk_X5_13 hc) dX5_isSoByLot_16 ?_
  refine lv_iconst (v := (0 : Int32)) hx hb dX5_isSoByLot_19 (by decide) ?_
  refine zr_aload_n (r := some h0) hx hb dX5_isSoByLot_20 rfl (lv_at hl 0 rfl) ?_
  obtain ⟨a_20, ci_21, fs_22, r_23, er, he, hc, hv, hw⟩ := zgR_e hw
  refine zw_get hk hH er he hv (fk_X5_126 hc) dX5_isSoByLot_21 ?_
  refine lv_iconst (v := (0 : Int32)) hx hb dX5_isSoByLot_24 (by decide) ?_
  refine lv_bipush (v := (24 : Int32)) hx hb dX5_isSoByLot_25 (by decide) ?_
  obtain ⟨a_24, n_26, f_28, er0, he0, hw⟩ := zaI_e hw
  obtain ⟨a_25, n_27, f_29, er1, he1, hA, h1, h2, h3, h4, h5, hft, hw⟩ := zaI_e hw
  obtain ⟨hp_30, eh⟩ : ∃ y : zHp, y = va_up hp_15 a_25 (some (.inl (g.2.1 3, n_27, .inl (va_cpy f_28 f_29 (0 : Int32).toNatClampNeg (0 : Int32).toNatClampNeg (24 : Int32).toNatClampNeg)))) := ⟨_, rfl⟩
  have hw := hw hp_30 eh
  refine zw_copyI (r0 := r_19) (r1 := r_23) (ty := .boolean) hk hH hz hS hl.1 q3171 q432 q431 q145 3 er0 er1 he0 he1 rfl rfl hA h1 h2 h3 h4 h5 hft eh (Nat.le_add_left 1 d) (Nat.le_trans (Nat.le_of_ble_eq_true rfl : _ ≤ 64) (by show 64 ≤ 64 * (d + 1); omega)) dX5_isSoByLot_27 (fun H locs hH hz hS => ?_)
  refine lv_iload_n hx hb dX5_isSoByLot_30 rfl (lv_at hl 3 rfl) ?_
  refine lv_istore (lv' := [(6, .int x3), (0, va_rf (some h0)), (1, .int x1), (2, .int x2), (3, .int x3), (4, .double x4)]) hx hb dX5_isSoByLot_31 hl (by decide) (by first | rfl | simp [List.filter_cons, z_cat, z_catI, z_catJ, z_catF, z_catD]) (fun ls hl => ?_)
  refine lv_iconst (v := (0 : Int32)) hx hb dX5_isSoByLot_33 (by decide) ?_
  refine lv_istore (lv' := [(7, .int (0 : Int32)), (6, .int x3), (0, va_rf (some h0)), (1, .int x1), (2, .int x2), (3, .int x3), (4, .double x4)]) hx hb dX5_isSoByLot_34 hl (by decide) (by first | rfl | simp [List.filter_cons, z_cat, z_catI, z_catJ, z_catF, z_catD]) (fun ls hl => ?_)
  obtain ⟨I_36, ⟨n_110, hI⟩, hB_36⟩ := hw
  have hL_36 : ∀ (n_35 : Nat) (x_31 : Int32) (x_32 : Int32) (hp_33 : zHp) (nx_34 : Nat) (H : Heap) (locs : List Loc) (ls : Array Slot), I_36 n_35 x_31 x_32 hp_33 nx_34 → lv_has ls 10 [(0, va_rf (some h0)), (1, .int x1), (2, .int x2), (3, .int x3), (4, .double x4), (6, .int x_31), (7, .int x_32)] → zHd g hp_33 H → H.size = nx_34 → va_S (zAd g) s.heap H locs → W p l e (zrm (d + 1) 0 0) s m ([.ref h0, .int x1, .int x2, .int x3, .double x4] : List Value).toArray below meth c H locs 0 0 (MQ below (zQi g Post) ([.ref h0, .int x1, .int x2, .int x3, .double x4] : List Value).toArray s 0 0 (zAd g)) (F0 m 36 ls []) := by
    intro n_35
    induction n_35 using Nat.strongRecOn with
    | _ n_35 ih_36 =>
      intro x_31 x_32 hp_33 nx_34 H locs ls hw hl hH hz hS
      have hw := hB_36 n_35 x_31 x_32 hp_33 nx_34 hw
      refine lv_iload hx hb dX5_isSoByLot_36 (lv_at hl 6 rfl) ?_
      refine lv_bipush (v := (24 : Int32)) hx hb dX5_isSoByLot_38 (by decide) ?_
      refine lv_icmp_ge (tgt := 106) hx hb dX5_isSoByLot_40 (by decide) (fun hc => ?_) (fun hc => ?_)
      · have hw := hw.1 hc
        refine zr_aload_n (r := some h0) hx hb dX5_isSoByLot_106 rfl (lv_at hl 0 rfl) ?_
        refine lv_iload_n hx hb dX5_isSoByLot_107 rfl (lv_at hl 1 rfl) ?_
        obtain ⟨a_84, ci_85, fs_86, er, he, hc, hw⟩ := zo_e hw
        obtain rfl := List.mem_singleton.mp hc
        refine zr_calld (zw_runV (As := [.int x1]) hk hH hz hS hl.1 er hw (cwV 1 hts (lw_V q3038 q3040 qs90 q162 q3041) rfl rfl rfl (by decide +kernel) (z_room (Nat.le_of_ble_eq_true rfl))) he rfl rfl rfl (Nat.le_of_ble_eq_true rfl) dX5_isSoByLot_108 ⟨Nat.le_of_ble_eq_true rfl, Nat.le_of_ble_eq_true rfl⟩) hS (fun x_38 hp_36 nx_37 hw H locs hH hz hS => ?_)
        refine lv_dstore (lv' := [(7, .double x_38), (0, va_rf (some h0)), (1, .int x1), (2, .int x2), (3, .int x3), (4, .double x4), (6, .int x_31)]) hx hb dX5_isSoByLot_111 hl (by decide) (by first | rfl | simp [List.filter_cons, z_cat, z_catI, z_catJ, z_catF, z_catD]) (fun ls hl => ?_)
        refine zr_aload_n (r := some h0) hx hb dX5_isSoByLot_113 rfl (lv_at hl 1 rfl) ?_
        refine lv_iload_n hx hb dX5_isSoByLot_114 rfl (lv_at hl 2 rfl) ?_
        obtain ⟨a_81, ci_82, fs_83, er, he, hc, hw⟩ := zo_e hw
        obtain rfl := List.mem_singleton.mp hc
        refine zr_calli (zw_runV (As := [.int x1]) hk hH hz hS hl.1 er hw (cwV 1 hts (lw_V q3042 q3044 qs91 q162 q3045) rfl rfl rfl (by decide +kernel) (z_room (Nat.le_of_ble_eq_true rfl))) he rfl rfl rfl (Nat.le_of_ble_eq_true rfl) dX5_isSoByLot_115 ⟨Nat.le_of_ble_eq_true rfl, Nat.le_of_ble_eq_true rfl⟩) hS (fun x_41 hp_39 nx_40 hw H locs hH hz hS => ?_)
        obtain ⟨P_134, hP_134, hw⟩ := hw
        have hJ_134 : ∀ (x_42 : Int32) (x_43 : UInt64) (x_44 : Int32) (hp_45 : zHp) (nx_46 : Nat) (H : Heap) (locs : List Loc) (ls : Array Slot), P_134 x_42 x_43 x_44 hp_45 nx_46 → lv_has ls 10 [(0, va_rf (some h0)), (1, .int x1), (2, .int x2), (3, .int x3), (4, .double x4), (6, .int x_42), (7, .double x_43)] → zHd g hp_45 H → H.size = nx_46 → va_S (zAd g) s.heap H locs → W p l e (zrm (d + 1) 0 0) s m ([.ref h0, .int x1, .int x2, .int x3, .double x4] : List Value).toArray below meth c H locs 0 0 (MQ below (zQi g Post) ([.ref h0, .int x1, .int x2, .int x3, .double x4] : List Value).toArray s 0 0 (zAd g)) (F0 m 134 ls [.int x_44]) := by
          intro x_42 x_43 x_44 hp_45 nx_46 H locs ls hw hl hH hz hS
          have hw := hP_134 x_42 x_43 x_44 hp_45 nx_46 hw
          refine lv_istore (lv' := [(9, .int x_44), (0, va_rf (some h0)), (1, .int x1), (2, .int x2), (3, .int x3), (4, .double x4), (6, .int x_42), (7, .double x_43)]) hx hb dX5_isSoByLot_134 hl (by decide) (by first | rfl | simp [List.filter_cons, z_cat, z_catI, z_catJ, z_catF, z_catD]) (fun ls hl => ?_)
          refine zr_aload_n (r := some h0) hx hb dX5_isSoByLot_136 rfl (lv_at hl 1 rfl) ?_
          obtain ⟨a_47, ci_48, fs_49, r_50, er, he, hc, hv, hw⟩ := zgR_e hw
          refine zw_get hk hH er he hv (fk_X5_123 hc) dX5_isSoByLot_137 ?_
          refine lv_iconst (v := (0 : Int32)) hx hb dX5_isSoByLot_140 (by decide) ?_
          refine zr_aload_n (r := some h0) hx hb dX5_isSoByLot_141 rfl (lv_at hl 1 rfl) ?_
          obtain ⟨a_51, ci_52, fs_53, r_54, er, he, hc, hv, hw⟩ := zgR_e hw
          refine zw_get hk hH er he hv (fk_X5_17 hc) dX5_isSoByLot_142 ?_
          refine lv_iconst (v := (0 : Int32)) hx hb dX5_isSoByLot_145 (by decide) ?_
          refine lv_bipush (v := (24 : Int32)) hx hb dX5_isSoByLot_146 (by decide) ?_
          obtain ⟨a_55, n_57, f_59, er0, he0, hw⟩ := zaD_e hw
          obtain ⟨a_56, n_58, f_60, er1, he1, hA, h1, h2, h3, h4, h5, hft, hw⟩ := zaD_e hw
          obtain ⟨hp_61, eh⟩ : ∃ y : zHp, y = va_up hp_45 a_56 (some (.inl (g.2.1 1, n_58, .inr (.inr (.inr (.inl (va_cpy f_59 f_60 (0 : Int32).toNatClampNeg (0 : Int32).toNatClampNeg (24 : Int32).toNatClampNeg))))))) := ⟨_, rfl⟩
          have hw := hw hp_61 eh
          refine zw_copyD (r0 := r_50) (r1 := r_54) (ty := .double) hk hH hz hS hl.1 q3171 q432 q431 q145 1 er0 er1 he0 he1 rfl rfl hA h1 h2 h3 h4 h5 hft eh (Nat.le_add_left 1 d) (Nat.le_trans (Nat.le_of_ble_eq_true rfl : _ ≤ 64) (by show 64 ≤ 64 * (d + 1); omega)) dX5_isSoByLot_148 (fun H locs hH hz hS => ?_)
          refine zr_aload_n (r := some h0) hx hb dX5_isSoByLot_151 rfl (lv_at hl 1 rfl) ?_
          obtain ⟨a_62, ci_63, fs_64, r_65, er, he, hc, hv, hw⟩ := zgR_e hw
          refine zw_get hk hH er he hv (fk_X5_126 hc) dX5_isSoByLot_152 ?_
          refine lv_iconst (v := (0 : Int32)) hx hb dX5_isSoByLot_155 (by decide) ?_
          refine zr_aload_n (r := some h0) hx hb dX5_isSoByLot_156 rfl (lv_at hl 1 rfl) ?_
          obtain ⟨a_66, ci_67, fs_68, r_69, er, he, hc, hv, hw⟩ := zgR_e hw
          refine zw_get hk hH er he hv (fk_X5_13 hc) dX5_isSoByLot_157 ?_
          refine lv_iconst (v := (0 : Int32)) hx hb dX5_isSoByLot_160 (by decide) ?_
          refine lv_bipush (v := (24 : Int32)) hx hb dX5_isSoByLot_161 (by decide) ?_
          obtain ⟨a_70, n_72, f_74, er0, he0, hw⟩ := zaI_e hw
          obtain ⟨a_71, n_73, f_75, er1, he1, hA, h1, h2, h3, h4, h5, hft, hw⟩ := zaI_e hw
          obtain ⟨hp_76, eh⟩ : ∃ y : zHp, y = va_up hp_61 a_71 (some (.inl (g.2.1 3, n_73, .inl (va_cpy f_74 f_75 (0 : Int32).toNatClampNeg (0 : Int32).toNatClampNeg (24 : Int32).toNatClampNeg)))) := ⟨_, rfl⟩
          have hw := hw hp_76 eh
          refine zw_copyI (r0 := r_65) (r1 := r_69) (ty := .boolean) hk hH hz hS hl.1 q3171 q432 q431 q145 3 er0 er1 he0 he1 rfl rfl hA h1 h2 h3 h4 h5 hft eh (Nat.le_add_left 1 d) (Nat.le_trans (Nat.le_of_ble_eq_true rfl : _ ≤ 64) (by show 64 ≤ 64 * (d + 1); omega)) dX5_isSoByLot_163 (fun H locs hH hz hS => ?_)
          refine lv_iload hx hb dX5_isSoByLot_166 (lv_at hl 0 rfl) ?_
          exact zr_zret hk hr hH hz hS hw.1 hw.2 (Nat.le_of_ble_eq_true rfl) (Nat.le_of_ble_eq_true rfl) dX5_isSoByLot_168
        obtain ⟨P_133, hP_133, hw⟩ := hw
        have hJ_133 : ∀ (x_77 : Int32) (x_78 : UInt64) (hp_79 : zHp) (nx_80 : Nat) (H : Heap) (locs : List Loc) (ls : Array Slot), P_133 x_77 x_78 hp_79 nx_80 → lv_has ls 10 [(0, va_rf (some h0)), (1, .int x1), (2, .int x2), (3, .int x3), (4, .double x4), (6, .int x_77), (7, .double x_78)] → zHd g hp_79 H → H.size = nx_80 → va_S (zAd g) s.heap H locs → W p l e (zrm (d + 1) 0 0) s m ([.ref h0, .int x1, .int x2, .int x3, .double x4] : List Value).toArray below meth c H locs 0 0 (MQ below (zQi g Post) ([.ref h0, .int x1, .int x2, .int x3, .double x4] : List Value).toArray s 0 0 (zAd g)) (F0 m 133 ls []) := by
          intro x_77 x_78 hp_79 nx_80 H locs ls hw hl hH hz hS
          have hw := hP_133 x_77 x_78 hp_79 nx_80 hw
          refine lv_iconst (v := (0 : Int32)) hx hb dX5_isSoByLot_133 (by decide) ?_
          exact hJ_134 x_77 x_78 (0 : Int32) hp_79 nx_80 _ _ _ hw hl hH hz hS
        refine lv_if_ne (tgt := 133) hx hb dX5_isSoByLot_118 (by decide) (fun hc => ?_) (fun hc => ?_)
        · have hw := hw.2 hc
          exact hJ_133 x_31 x_38 hp_39 nx_40 _ _ _ hw (lv_sub hl [1, 2, 3, 4, 5, 6, 0] rfl) hH hz hS
        · have hw := hw.1 hc
          refine lv_dload hx hb dX5_isSoByLot_121 (lv_at hl 0 rfl) ?_
          refine lv_dload hx hb dX5_isSoByLot_123 (lv_at hl 5 rfl) ?_
          refine lv_dcmp hx hb dX5_isSoByLot_125 ?_
          refine lv_if_lt (tgt := 133) hx hb dX5_isSoByLot_126 (by decide) (fun hc => ?_) (fun hc => ?_)
          · have hw := hw.1 hc
            exact hJ_133 x_31 x_38 hp_39 nx_40 _ _ _ hw (lv_sub hl [1, 2, 3, 4, 5, 6, 0] rfl) hH hz hS
          · have hw := hw.2 hc
            refine lv_iconst (v := (1 : Int32)) hx hb dX5_isSoByLot_129 (by decide) ?_
            refine lv_goto (tgt := 134) hx hb dX5_isSoByLot_130 (by decide) ?_
            exact hJ_134 x_31 x_38 (1 : Int32) hp_39 nx_40 _ _ _ hw (lv_sub hl [1, 2, 3, 4, 5, 6, 0] rfl) hH hz hS
      · have hw := hw.2 hc
        refine lv_iload_n hx hb dX5_isSoByLot_43 rfl (lv_at hl 2 rfl) ?_
        refine lv_iload hx hb dX5_isSoByLot_44 (lv_at hl 6 rfl) ?_
        refine lv_ishr hx hb dX5_isSoByLot_46 ?_
        refine lv_iconst (v := (1 : Int32)) hx hb dX5_isSoByLot_47 (by decide) ?_
        refine lv_iand hx hb dX5_isSoByLot_48 ?_
        obtain ⟨P_100, hP_100, hw⟩ := hw
        have hJ_100 : ∀ (x_87 : Int32) (x_88 : Int32) (hp_89 : zHp) (nx_90 : Nat) (H : Heap) (locs : List Loc) (ls : Array Slot), P_100 x_87 x_88 hp_89 nx_90 → lv_has ls 10 [(0, va_rf (some h0)), (1, .int x1), (2, .int x2), (3, .int x3), (4, .double x4), (6, .int x_87), (7, .int x_88)] → zHd g hp_89 H → H.size = nx_90 → va_S (zAd g) s.heap H locs → W p l e (zrm (d + 1) 0 0) s m ([.ref h0, .int x1, .int x2, .int x3, .double x4] : List Value).toArray below meth c H locs 0 0 (MQ below (zQi g Post) ([.ref h0, .int x1, .int x2, .int x3, .double x4] : List Value).toArray s 0 0 (zAd g)) (F0 m 100 ls []) := by
          intro x_87 x_88 hp_89 nx_90 H locs ls hw hl hH hz hS
          have hw := hP_100 x_87 x_88 hp_89 nx_90 hw
          obtain ⟨x_91, ex_91⟩ : ∃ y : Int32, y = x_88 + (1 : Int32) := ⟨_, rfl⟩
          have hw := hw x_91 ex_91
          refine lv_iinc (v := x_91) (lv' := [(7, .int x_91), (0, va_rf (some h0)), (1, .int x1), (2, .int x2), (3, .int x3), (4, .double x4), (6, .int x_87)]) hx hb dX5_isSoByLot_100 hl (k := 6) rfl (by rw [ex_91]; rfl) (by decide) (by first | rfl | simp [List.filter_cons, z_cat, z_catI, z_catJ, z_catF, z_catD]) (fun ls hl => ?_)
          refine lv_goto (tgt := 36) hx hb dX5_isSoByLot_103 (by decide) ?_
          obtain ⟨k_92, hlt, hw⟩ := hw
          exact ih_36 k_92 hlt x_87 x_91 hp_89 nx_90 _ _ _ hw (lv_sub hl [1, 2, 3, 4, 5, 6, 0] rfl) hH hz hS
        refine lv_if_ne (tgt := 55) hx hb dX5_isSoByLot_49 (by decide) (fun hc => ?_) (fun hc => ?_)
        · have hw := hw.2 hc
          refine lv_iload hx hb dX5_isSoByLot_55 (lv_at hl 5 rfl) ?_
          refine lv_ldcw hx hb hown (hts _ q3286) dX5_isSoByLot_57 ?_
          refine lv_imul hx hb dX5_isSoByLot_60 ?_
          refine lv_sipush (v := (12345 : Int32)) hx hb dX5_isSoByLot_61 (by decide) ?_
          refine lv_iadd hx hb dX5_isSoByLot_64 ?_
          refine lv_topi (fun x_93 ex_93 => ?_)
          have hw := hw x_93 ex_93
          refine lv_istore (lv' := [(6, .int x_93), (0, va_rf (some h0)), (1, .int x1), (2, .int x2), (3, .int x3), (4, .double x4), (7, .int x_32)]) hx hb dX5_isSoByLot_65 hl (by decide) (by first | rfl | simp [List.filter_cons, z_cat, z_catI, z_catJ, z_catF, z_catD]) (fun ls hl => ?_)
          refine zr_aload_n (r := some h0) hx hb dX5_isSoByLot_67 rfl (lv_at hl 1 rfl) ?_
          obtain ⟨a_94, ci_95, fs_96, r_97, er, he, hc, hv, hw⟩ := zgR_e hw
          refine zw_get hk hH er he hv (fk_X5_17 hc) dX5_isSoByLot_68 ?_
          refine lv_iload hx hb dX5_isSoByLot_71 (lv_at hl 6 rfl) ?_
          refine lv_iload hx hb dX5_isSoByLot_73 (lv_at hl 0 rfl) ?_
          refine lv_bipush (v := (9 : Int32)) hx hb dX5_isSoByLot_75 (by decide) ?_
          refine lv_iushr hx hb dX5_isSoByLot_77 rfl ?_
          refine lv_sipush (v := (401 : Int32)) hx hb dX5_isSoByLot_78 (by decide) ?_
          obtain ⟨hne, hw⟩ := hw
          refine lv_irem hx hb dX5_isSoByLot_81 hne ?_
          refine lv_sipush (v := (200 : Int32)) hx hb dX5_isSoByLot_82 (by decide) ?_
          refine lv_isub hx hb dX5_isSoByLot_85 ?_
          refine lv_i2d hx hb dX5_isSoByLot_86 ?_
          refine lv_ldc2d hx hb hown (hts _ q2923) dX5_isSoByLot_87 ?_
          obtain ⟨hne, hw⟩ := hw
          refine lv_ddiv hx hb dX5_isSoByLot_90 hne ?_
          obtain ⟨a_98, n_99, f_100, er, he, hi, hA, hw⟩ := zaD_e hw
          obtain ⟨hp_101, eh⟩ : ∃ y : zHp, y = va_up hp_33 a_98 (some (.inl (g.2.1 1, n_99, .inr (.inr (.inr (.inl (va_up f_100 x_32.toNatClampNeg (FP.ddiv (FP.i2d ((((x_93.toUInt32 >>> ((9 : Int32).toUInt32 &&& Int32.toUInt32 31)).toInt32) - ((x_93.toUInt32 >>> ((9 : Int32).toUInt32 &&& Int32.toUInt32 31)).toInt32) / (401 : Int32) * (401 : Int32)) - (200 : Int32))) (4620693217682128896 : UInt64))))))))) := ⟨_, rfl⟩
          have hw := hw hp_101 eh
          refine zw_dast hk hH hz hS er he hi hA eh dX5_isSoByLot_91 (fun H locs hH hz hS => ?_)
          refine zr_aload_n (r := some h0) hx hb dX5_isSoByLot_92 rfl (lv_at hl 1 rfl) ?_
          obtain ⟨a_102, ci_103, fs_104, r_105, er, he, hc, hv, hw⟩ := zgR_e hw
          refine zw_get hk hH er he hv (fk_X5_13 hc) dX5_isSoByLot_93 ?_
          refine lv_iload hx hb dX5_isSoByLot_96 (lv_at hl 6 rfl) ?_
          refine lv_iconst (v := (1 : Int32)) hx hb dX5_isSoByLot_98 (by decide) ?_
          obtain ⟨a_106, n_107, f_108, er, he, hi, hA, hw⟩ := zaI_e hw
          obtain ⟨hp_109, eh⟩ : ∃ y : zHp, y = va_up hp_101 a_106 (some (.inl (g.2.1 3, n_107, .inl (va_up f_108 x_32.toNatClampNeg (vp_nar .boolean (1 : Int32)))))) := ⟨_, rfl⟩
          have hw := hw hp_109 eh
          refine zw_zast hk hH hz hS er he hi hA eh dX5_isSoByLot_99 (fun H locs hH hz hS => ?_)
          exact hJ_100 x_93 x_32 hp_109 nx_34 _ _ _ hw (lv_sub hl [1, 2, 3, 4, 5, 0, 6] rfl) hH hz hS
        · have hw := hw.1 hc
          refine lv_goto (tgt := 100) hx hb dX5_isSoByLot_52 (by decide) ?_
          exact hJ_100 x_31 x_32 hp_33 nx_34 _ _ _ hw hl hH hz hS
  exact hL_36 n_110 x3 (0 : Int32) hp_30 nx _ _ _ hI (lv_sub hl [2, 3, 4, 5, 6, 1, 0] rfl) hH hz hS
def wp_X5_common (l : Launch) (g : zG) (d : Nat) (x0 : Int32) (x1 : Int32) (hp : zHp) (nx : Nat) (Post : Int32 → zHp → Nat → Prop) : Prop :=
  (∃ P_15 : Int32 → zHp → Nat → Prop, (∀ (x_1 : Int32) (hp_2 : zHp) (nx_3 : Nat), P_15 x_1 hp_2 nx_3 →
  (Post x_1 hp_2 nx_3)) ∧
  ((x1 = 0 →
  P_15 x0 hp nx) ∧
  (¬ x1 = 0 →
  (¬ x1 = 0 ∧ (zMt l g yX5_common cX5_common 2 (some .int) d 0 0 [.int x1, .int (x0 - x0 / x1 * x1)] hp nx (zQi g fun x_6 hp_4 nx_5 =>
  P_15 x_6 hp_4 nx_5))))))
set_option maxHeartbeats 40000000 in
theorem met_X5_common {l : Launch} {g : zG} {d : Nat} {x0 : Int32} {x1 : Int32} {hp : zHp} {nx : Nat} {Post : Int32 → zHp → Nat → Prop} (hw : wp_X5_common l g d x0 x1 hp nx Post) : zMt l g yX5_common cX5_common 2 (some .int) (d + 1) 0 0 [.int x0, .int x1] hp nx (zQi g Post) := by
  refine z_start (by decide) (Nat.le_of_ble_eq_true rfl) ?_
  intro p e s m below meth c hk hr hin hH hz ls hl
  have hx := hk.1.1
  have hb := hk.1.2.1
  have hown := hk.1.2.2.2.1
  have hts := hk.1.2.2.2.2
  have hS : va_S (zAd g) s.heap s.heap [] := va_S.rf
  have hl : lv_has ls 2 [(0, .int x0), (1, .int x1)] := hl
  unfold wp_X5_common at hw
  refine lv_iload_n hx hb dX5_common_0 rfl (lv_at hl 1 rfl) ?_
  obtain ⟨P_15, hP_15, hw⟩ := hw
  have hJ_15 : ∀ (x_1 : Int32) (hp_2 : zHp) (nx_3 : Nat) (H : Heap) (locs : List Loc) (ls : Array Slot), P_15 x_1 hp_2 nx_3 → lv_has ls 2 [(0, .int x0), (1, .int x1)] → zHd g hp_2 H → H.size = nx_3 → va_S (zAd g) s.heap H locs → W p l e (zrm (d + 1) 0 0) s m ([.int x0, .int x1] : List Value).toArray below meth c H locs 0 0 (MQ below (zQi g Post) ([.int x0, .int x1] : List Value).toArray s 0 0 (zAd g)) (F0 m 15 ls [.int x_1]) := by
    intro x_1 hp_2 nx_3 H locs ls hw hl hH hz hS
    have hw := hP_15 x_1 hp_2 nx_3 hw
    exact zr_iret hk hr hH hz hS hw (Nat.le_of_ble_eq_true rfl) (Nat.le_of_ble_eq_true rfl) dX5_common_15
  refine lv_if_ne (tgt := 8) hx hb dX5_common_1 (by decide) (fun hc => ?_) (fun hc => ?_)
  · have hw := hw.2 hc
    refine lv_iload_n hx hb dX5_common_8 rfl (lv_at hl 1 rfl) ?_
    refine lv_iload_n hx hb dX5_common_9 rfl (lv_at hl 0 rfl) ?_
    refine lv_iload_n hx hb dX5_common_10 rfl (lv_at hl 1 rfl) ?_
    obtain ⟨hne, hw⟩ := hw
    refine lv_irem hx hb dX5_common_11 hne ?_
    refine zr_calli (zr_runS (As := [.int x1, .int (x0 - x0 / x1 * x1)]) hk hH hz hS hl.1 hw (va_cwS 2 hts (lw_S q3287 q3288 q162 q3289) rfl rfl rfl (by decide +kernel) (z_room (Nat.le_of_ble_eq_true rfl))) rfl rfl (Nat.le_of_ble_eq_true rfl) dX5_common_12 ⟨Nat.le_of_ble_eq_true rfl, Nat.le_of_ble_eq_true rfl⟩) hS (fun x_6 hp_4 nx_5 hw H locs hH hz hS => ?_)
    exact hJ_15 x_6 hp_4 nx_5 _ _ _ hw hl hH hz hS
  · have hw := hw.1 hc
    refine lv_iload_n hx hb dX5_common_4 rfl (lv_at hl 0 rfl) ?_
    refine lv_goto (tgt := 15) hx hb dX5_common_5 (by decide) ?_
    exact hJ_15 x0 hp nx _ _ _ hw hl hH hz hS
def wp_X5_film (l : Launch) (g : zG) (d : Nat) (h0 : Nat) (x1 : Int32) (x2 : Int32) (hp : zHp) (nx : Nat) (Post : Int32 → zHp → Nat → Prop) : Prop :=
  (zMt l g yX5_isTable cX5_isTable 1 (some .boolean) d 0 0 [.int x1] hp nx (zQi g fun x_3 hp_1 nx_2 =>
  (∃ P_14 : zHp → Nat → Prop, (∀ (hp_4 : zHp) (nx_5 : Nat), P_14 hp_4 nx_5 →
  (Post (-2 : Int32) hp_4 nx_5)) ∧
  ((x_3 = 0 →
  P_14 hp_1 nx_2) ∧
  (¬ x_3 = 0 →
  (zMt l g yX5_isRow cX5_isRow 1 (some .boolean) d 0 0 [.int x2] hp_1 nx_2 (zQi g fun x_8 hp_6 nx_7 =>
  ((x_8 = 0 →
  P_14 hp_6 nx_7) ∧
  (¬ x_8 = 0 →
  (zgR hp_6 (some h0) [5] 6 fun r_12 =>
  (zaI (g.2.1 3) hp_6 r_12 fun a_13 n_14 f_15 => vp_in x1 n_14 ∧ ∀ x_16 : Int32, x_16 = f_15 x1.toNatClampNeg →
  ((x_16 = 0 →
  (Post (-3 : Int32) hp_6 nx_7)) ∧
  (¬ x_16 = 0 →
  (zgR hp_6 (some h0) [5] 9 fun r_20 =>
  (zaI (g.2.1 0) hp_6 r_20 fun a_21 n_22 f_23 => vp_in x1 n_22 ∧ ∀ x_24 : Int32, x_24 = f_23 x1.toNatClampNeg →
  (∃ P_53 : Int32 → zHp → Nat → Prop, (∀ (x_25 : Int32) (hp_26 : zHp) (nx_27 : Nat), P_53 x_25 hp_26 nx_27 →
  (zgR hp_26 (some h0) [5] 70 fun r_31 =>
  (zaI (g.2.1 0) hp_26 r_31 fun a_32 n_33 f_34 => vp_in x2 n_33 ∧ zB g ≤ a_32 ∧ ∀ hp_35 : zHp, hp_35 = va_up hp_26 a_32 (some (.inl (g.2.1 0, n_33, .inl (va_up f_34 x2.toNatClampNeg (3 : Int32))))) →
  (zgR hp_35 (some h0) [5] 71 fun r_39 =>
  (zo hp_35 (some h0) [5] fun a_126 ci_127 fs_128 => zMt l g yX5_cases cX5_cases 2 (some .int) d 0 0 (.ref a_126 :: [.int x1]) hp_35 nx_27 (zQi g fun x_42 hp_40 nx_41 =>
  (zaI (g.2.1 0) hp_40 r_39 fun a_43 n_44 f_45 => vp_in x2 n_44 ∧ zB g ≤ a_43 ∧ ∀ hp_46 : zHp, hp_46 = va_up hp_40 a_43 (some (.inl (g.2.1 0, n_44, .inl (va_up f_45 x2.toNatClampNeg x_42)))) →
  (∃ I_75 : Nat → Int32 → Int32 → zHp → Nat → Prop, (∃ n_125, I_75 n_125 x_25 (0 : Int32) hp_46 nx_41) ∧ ∀ (n_51 : Nat) (x_47 : Int32) (x_48 : Int32) (hp_49 : zHp) (nx_50 : Nat), I_75 n_51 x_47 x_48 hp_49 nx_50 →
  (zgR hp_49 (some h0) [5] 71 fun r_55 =>
  (zaI (g.2.1 0) hp_49 r_55 fun a_56 n_57 f_58 => vp_in x2 n_57 ∧ ∀ x_59 : Int32, x_59 = f_58 x2.toNatClampNeg →
  ((x_59 ≤ x_48 →
  (zgR hp_49 (some h0) [5] 71 fun r_63 =>
  (zaI (g.2.1 0) hp_49 r_63 fun a_64 n_65 f_66 => vp_in x2 n_65 ∧ ∀ x_67 : Int32, x_67 = f_66 x2.toNatClampNeg →
  (Post x_67 hp_49 nx_50)))) ∧
  (¬ x_59 ≤ x_48 →
  (¬ x_47 = 0 ∧ (¬ x_47 = 0 ∧ (zo hp_49 (some h0) [5] fun a_122 ci_123 fs_124 => zMt l g yX5_tellCaseNow cX5_tellCaseNow 4 none d 0 0 (.ref a_122 :: [.int x1, .int (x_48 / x_47), .int (x_48 - x_48 / x_47 * x_47)]) hp_49 nx_50 (zQv g fun hp_68 nx_69 =>
  (zgR hp_68 (some h0) [5] 72 fun r_73 =>
  (zaR (g.2.1 15) hp_68 r_73 fun a_74 n_75 f_76 => vp_in x2 n_75 ∧ ∀ r_77 : Option Nat, r_77 = f_76 x2.toNatClampNeg →
  (zgI hp_68 (some h0) [5] 31 fun x_81 =>
  (∃ P_122 : Int32 → Int32 → (Option Nat) → Int32 → UInt64 → zHp → Nat → Prop, (∀ (x_82 : Int32) (x_83 : Int32) (r_84 : Option Nat) (x_85 : Int32) (x_86 : UInt64) (hp_87 : zHp) (nx_88 : Nat), P_122 x_82 x_83 r_84 x_85 x_86 hp_87 nx_88 →
  (zaD (g.2.1 1) hp_87 r_84 fun a_89 n_90 f_91 => vp_in x_85 n_90 ∧ zB g ≤ a_89 ∧ ∀ hp_92 : zHp, hp_92 = va_up hp_87 a_89 (some (.inl (g.2.1 1, n_90, .inr (.inr (.inr (.inl (va_up f_91 x_85.toNatClampNeg x_86))))))) →
  (zgR hp_92 (some h0) [5] 73 fun r_96 =>
  (zaR (g.2.1 16) hp_92 r_96 fun a_97 n_98 f_99 => vp_in x2 n_98 ∧ ∀ r_100 : Option Nat, r_100 = f_99 x2.toNatClampNeg →
  (zgI hp_92 (some h0) [5] 31 fun x_104 =>
  (∃ P_143 : Int32 → Int32 → (Option Nat) → Int32 → Int32 → zHp → Nat → Prop, (∀ (x_105 : Int32) (x_106 : Int32) (r_107 : Option Nat) (x_108 : Int32) (x_109 : Int32) (hp_110 : zHp) (nx_111 : Nat), P_143 x_105 x_106 r_107 x_108 x_109 hp_110 nx_111 →
  (zaI (g.2.1 3) hp_110 r_107 fun a_112 n_113 f_114 => vp_in x_108 n_113 ∧ zB g ≤ a_112 ∧ ∀ hp_115 : zHp, hp_115 = va_up hp_110 a_112 (some (.inl (g.2.1 3, n_113, .inl (va_up f_114 x_108.toNatClampNeg (vp_nar .boolean x_109))))) →
  (∀ x_116 : Int32, x_116 = x_106 + (1 : Int32) →
  (∃ k_117, k_117 < n_51 ∧ I_75 k_117 x_105 x_116 hp_115 nx_111)))) ∧
  ((x_104 = 0 →
  P_143 x_82 x_83 r_100 x_83 (0 : Int32) hp_92 nx_88) ∧
  (¬ x_104 = 0 →
  P_143 x_82 x_83 r_100 x_83 (1 : Int32) hp_92 nx_88)))))))) ∧
  ((x_81 = 0 →
  (zgD hp_68 (some h0) [5] 30 fun x_121 =>
  P_122 x_47 x_48 r_77 x_48 x_121 hp_68 nx_69)) ∧
  (¬ x_81 = 0 →
  P_122 x_47 x_48 r_77 x_48 FP.dconst0 hp_68 nx_69)))))))))))))))))))))) ∧
  ((x_24 = (-1 : Int32) →
  P_53 (1 : Int32) hp_6 nx_7) ∧
  (¬ x_24 = (-1 : Int32) →
  (zgR hp_6 (some h0) [5] 10 fun r_132 =>
  (zaI (g.2.1 0) hp_6 r_132 fun a_133 n_134 f_135 => vp_in (((2 : Int32) * x1) + (1 : Int32)) n_134 ∧ ∀ x_136 : Int32, x_136 = f_135 (((2 : Int32) * x1) + (1 : Int32)).toNatClampNeg →
  P_53 x_136 hp_6 nx_7))))))))))))))))))))
set_option maxHeartbeats 40000000 in
theorem met_X5_film {l : Launch} {g : zG} {d : Nat} {h0 : Nat} {x1 : Int32} {x2 : Int32} {hp : zHp} {nx : Nat} {Post : Int32 → zHp → Nat → Prop} (hw : wp_X5_film l g d h0 x1 x2 hp nx Post) : zMt l g yX5_film cX5_film 5 (some .int) (d + 1) 0 0 [.ref h0, .int x1, .int x2] hp nx (zQi g Post) := by
  refine z_start (by decide) (Nat.le_of_ble_eq_true rfl) ?_
  intro p e s m below meth c hk hr hin hH hz ls hl
  have hx := hk.1.1
  have hb := hk.1.2.1
  have hown := hk.1.2.2.2.1
  have hts := hk.1.2.2.2.2
  have hS : va_S (zAd g) s.heap s.heap [] := va_S.rf
  have hl : lv_has ls 5 [(0, va_rf (some h0)), (1, .int x1), (2, .int x2)] := hl
  unfold wp_X5_film at hw
  refine lv_iload_n hx hb dX5_film_0 rfl (lv_at hl 1 rfl) ?_
  refine zr_calli (zr_runS (As := [.int x1]) hk hH hz hS hl.1 hw (va_cwS 1 hts (lw_S q3181 q3182 q162 q3183) rfl rfl rfl (by decide +kernel) (z_room (Nat.le_of_ble_eq_true rfl))) rfl rfl (Nat.le_of_ble_eq_true rfl) dX5_film_1 ⟨Nat.le_of_ble_eq_true rfl, Nat.le_of_ble_eq_true rfl⟩) hS (fun x_3 hp_1 nx_2 hw H locs hH hz hS => ?_)
  obtain ⟨P_14, hP_14, hw⟩ := hw
  have hJ_14 : ∀ (hp_4 : zHp) (nx_5 : Nat) (H : Heap) (locs : List Loc) (ls : Array Slot), P_14 hp_4 nx_5 → lv_has ls 5 [(0, va_rf (some h0)), (1, .int x1), (2, .int x2)] → zHd g hp_4 H → H.size = nx_5 → va_S (zAd g) s.heap H locs → W p l e (zrm (d + 1) 0 0) s m ([.ref h0, .int x1, .int x2] : List Value).toArray below meth c H locs 0 0 (MQ below (zQi g Post) ([.ref h0, .int x1, .int x2] : List Value).toArray s 0 0 (zAd g)) (F0 m 14 ls []) := by
    intro hp_4 nx_5 H locs ls hw hl hH hz hS
    have hw := hP_14 hp_4 nx_5 hw
    refine lv_bipush (v := (-2 : Int32)) hx hb dX5_film_14 (by decide) ?_
    exact zr_iret hk hr hH hz hS hw (Nat.le_of_ble_eq_true rfl) (Nat.le_of_ble_eq_true rfl) dX5_film_16
  refine lv_if_eq (tgt := 14) hx hb dX5_film_4 (by decide) (fun hc => ?_) (fun hc => ?_)
  · have hw := hw.1 hc
    exact hJ_14 hp_1 nx_2 _ _ _ hw hl hH hz hS
  · have hw := hw.2 hc
    refine lv_iload_n hx hb dX5_film_7 rfl (lv_at hl 2 rfl) ?_
    refine zr_calli (zr_runS (As := [.int x2]) hk hH hz hS hl.1 hw (va_cwS 1 hts (lw_S q3198 q3199 q162 q3200) rfl rfl rfl (by decide +kernel) (z_room (Nat.le_of_ble_eq_true rfl))) rfl rfl (Nat.le_of_ble_eq_true rfl) dX5_film_8 ⟨Nat.le_of_ble_eq_true rfl, Nat.le_of_ble_eq_true rfl⟩) hS (fun x_8 hp_6 nx_7 hw H locs hH hz hS => ?_)
    refine lv_if_ne (tgt := 17) hx hb dX5_film_11 (by decide) (fun hc => ?_) (fun hc => ?_)
    · have hw := hw.2 hc
      refine zr_aload_n (r := some h0) hx hb dX5_film_17 rfl (lv_at hl 0 rfl) ?_
      obtain ⟨a_9, ci_10, fs_11, r_12, er, he, hc, hv, hw⟩ := zgR_e hw
      refine zw_get hk hH er he hv (fk_X5_34 hc) dX5_film_18 ?_
      refine lv_iload_n hx hb dX5_film_21 rfl (lv_at hl 1 rfl) ?_
      obtain ⟨a_13, n_14, f_15, er, he, hi, hw⟩ := zaI_e hw
      have hw := hw _ rfl
      refine zw_zald hk hH er he hi dX5_film_22 ?_
      generalize f_15 x1.toNatClampNeg = x_16 at hw ⊢
      refine lv_if_ne (tgt := 29) hx hb dX5_film_23 (by decide) (fun hc => ?_) (fun hc => ?_)
      · have hw := hw.2 hc
        refine zr_aload_n (r := some h0) hx hb dX5_film_29 rfl (lv_at hl 0 rfl) ?_
        obtain ⟨a_17, ci_18, fs_19, r_20, er, he, hc, hv, hw⟩ := zgR_e hw
        refine zw_get hk hH er he hv (fk_X5_43 hc) dX5_film_30 ?_
        refine lv_iload_n hx hb dX5_film_33 rfl (lv_at hl 1 rfl) ?_
        obtain ⟨a_21, n_22, f_23, er, he, hi, hw⟩ := zaI_e hw
        have hw := hw _ rfl
        refine zw_iald hk hH er he hi dX5_film_34 ?_
        generalize f_23 x1.toNatClampNeg = x_24 at hw ⊢
        refine lv_iconst (v := (-1 : Int32)) hx hb dX5_film_35 (by decide) ?_
        obtain ⟨P_53, hP_53, hw⟩ := hw
        have hJ_53 : ∀ (x_25 : Int32) (hp_26 : zHp) (nx_27 : Nat) (H : Heap) (locs : List Loc) (ls : Array Slot), P_53 x_25 hp_26 nx_27 → lv_has ls 5 [(0, va_rf (some h0)), (1, .int x1), (2, .int x2)] → zHd g hp_26 H → H.size = nx_27 → va_S (zAd g) s.heap H locs → W p l e (zrm (d + 1) 0 0) s m ([.ref h0, .int x1, .int x2] : List Value).toArray below meth c H locs 0 0 (MQ below (zQi g Post) ([.ref h0, .int x1, .int x2] : List Value).toArray s 0 0 (zAd g)) (F0 m 53 ls [.int x_25]) := by
          intro x_25 hp_26 nx_27 H locs ls hw hl hH hz hS
          have hw := hP_53 x_25 hp_26 nx_27 hw
          refine lv_istore_n (i := 3) (lv' := [(3, .int x_25), (0, va_rf (some h0)), (1, .int x1), (2, .int x2)]) hx hb dX5_film_53 rfl hl (by decide) (by first | rfl | simp [List.filter_cons, z_cat, z_catI, z_catJ, z_catF, z_catD]) (fun ls hl => ?_)
          refine zr_aload_n (r := some h0) hx hb dX5_film_54 rfl (lv_at hl 1 rfl) ?_
          obtain ⟨a_28, ci_29, fs_30, r_31, er, he, hc, hv, hw⟩ := zgR_e hw
          refine zw_get hk hH er he hv (fk_X5_165 hc) dX5_film_55 ?_
          refine lv_iload_n hx hb dX5_film_58 rfl (lv_at hl 3 rfl) ?_
          refine lv_iconst (v := (3 : Int32)) hx hb dX5_film_59 (by decide) ?_
          obtain ⟨a_32, n_33, f_34, er, he, hi, hA, hw⟩ := zaI_e hw
          obtain ⟨hp_35, eh⟩ : ∃ y : zHp, y = va_up hp_26 a_32 (some (.inl (g.2.1 0, n_33, .inl (va_up f_34 x2.toNatClampNeg (3 : Int32))))) := ⟨_, rfl⟩
          have hw := hw hp_35 eh
          refine zw_iast hk hH hz hS er he hi hA eh dX5_film_60 (fun H locs hH hz hS => ?_)
          refine zr_aload_n (r := some h0) hx hb dX5_film_61 rfl (lv_at hl 1 rfl) ?_
          obtain ⟨a_36, ci_37, fs_38, r_39, er, he, hc, hv, hw⟩ := zgR_e hw
          refine zw_get hk hH er he hv (fk_X5_168 hc) dX5_film_62 ?_
          refine lv_iload_n hx hb dX5_film_65 rfl (lv_at hl 3 rfl) ?_
          refine zr_aload_n (r := some h0) hx hb dX5_film_66 rfl (lv_at hl 1 rfl) ?_
          refine lv_iload_n hx hb dX5_film_67 rfl (lv_at hl 2 rfl) ?_
          obtain ⟨a_126, ci_127, fs_128, er, he, hc, hw⟩ := zo_e hw
          obtain rfl := List.mem_singleton.mp hc
          refine zr_calli (zw_runV (As := [.int x1]) hk hH hz hS hl.1 er hw (cwV 1 hts (lw_V q2986 q2988 qs80 q162 q2989) rfl rfl rfl (by decide +kernel) (z_room (Nat.le_of_ble_eq_true rfl))) he rfl rfl rfl (by simp only [List.map_cons, List.map_nil, z_cat]; exact Nat.le_of_ble_eq_true rfl) dX5_film_68 ⟨Nat.le_of_ble_eq_true rfl, Nat.le_of_ble_eq_true rfl⟩) hS (fun x_42 hp_40 nx_41 hw H locs hH hz hS => ?_)
          obtain ⟨a_43, n_44, f_45, er, he, hi, hA, hw⟩ := zaI_e hw
          obtain ⟨hp_46, eh⟩ : ∃ y : zHp, y = va_up hp_40 a_43 (some (.inl (g.2.1 0, n_44, .inl (va_up f_45 x2.toNatClampNeg x_42)))) := ⟨_, rfl⟩
          have hw := hw hp_46 eh
          refine zw_iast hk hH hz hS er he hi hA eh dX5_film_71 (fun H locs hH hz hS => ?_)
          refine lv_iconst (v := (0 : Int32)) hx hb dX5_film_72 (by decide) ?_
          refine lv_istore (lv' := [(4, .int (0 : Int32)), (3, .int x_25), (0, va_rf (some h0)), (1, .int x1), (2, .int x2)]) hx hb dX5_film_73 hl (by decide) (by first | rfl | simp [List.filter_cons, z_cat, z_catI, z_catJ, z_catF, z_catD]) (fun ls hl => ?_)
          obtain ⟨I_75, ⟨n_125, hI⟩, hB_75⟩ := hw
          have hL_75 : ∀ (n_51 : Nat) (x_47 : Int32) (x_48 : Int32) (hp_49 : zHp) (nx_50 : Nat) (H : Heap) (locs : List Loc) (ls : Array Slot), I_75 n_51 x_47 x_48 hp_49 nx_50 → lv_has ls 5 [(0, va_rf (some h0)), (1, .int x1), (2, .int x2), (3, .int x_47), (4, .int x_48)] → zHd g hp_49 H → H.size = nx_50 → va_S (zAd g) s.heap H locs → W p l e (zrm (d + 1) 0 0) s m ([.ref h0, .int x1, .int x2] : List Value).toArray below meth c H locs 0 0 (MQ below (zQi g Post) ([.ref h0, .int x1, .int x2] : List Value).toArray s 0 0 (zAd g)) (F0 m 75 ls []) := by
            intro n_51
            induction n_51 using Nat.strongRecOn with
            | _ n_51 ih_75 =>
              intro x_47 x_48 hp_49 nx_50 H locs ls hw hl hH hz hS
              have hw := hB_75 n_51 x_47 x_48 hp_49 nx_50 hw
              refine lv_iload hx hb dX5_film_75 (lv_at hl 4 rfl) ?_
              refine zr_aload_n (r := some h0) hx hb dX5_film_77 rfl (lv_at hl 0 rfl) ?_
              obtain ⟨a_52, ci_53, fs_54, r_55, er, he, hc, hv, hw⟩ := zgR_e hw
              refine zw_get hk hH er he hv (fk_X5_168 hc) dX5_film_78 ?_
              refine lv_iload_n hx hb dX5_film_81 rfl (lv_at hl 2 rfl) ?_
              obtain ⟨a_56, n_57, f_58, er, he, hi, hw⟩ := zaI_e hw
              have hw := hw _ rfl
              refine zw_iald hk hH er he hi dX5_film_82 ?_
              generalize f_58 x2.toNatClampNeg = x_59 at hw ⊢
              refine lv_icmp_ge (tgt := 150) hx hb dX5_film_83 (by decide) (fun hc => ?_) (fun hc => ?_)
              · have hw := hw.1 hc
                refine zr_aload_n (r := some h0) hx hb dX5_film_150 rfl (lv_at hl 0 rfl) ?_
                obtain ⟨a_60, ci_61, fs_62, r_63, er, he, hc, hv, hw⟩ := zgR_e hw
                refine zw_get hk hH er he hv (fk_X5_168 hc) dX5_film_151 ?_
                refine lv_iload_n hx hb dX5_film_154 rfl (lv_at hl 2 rfl) ?_
                obtain ⟨a_64, n_65, f_66, er, he, hi, hw⟩ := zaI_e hw
                have hw := hw _ rfl
                refine zw_iald hk hH er he hi dX5_film_155 ?_
                generalize f_66 x2.toNatClampNeg = x_67 at hw ⊢
                exact zr_iret hk hr hH hz hS hw (Nat.le_of_ble_eq_true rfl) (Nat.le_of_ble_eq_true rfl) dX5_film_156
              · have hw := hw.2 hc
                refine zr_aload_n (r := some h0) hx hb dX5_film_86 rfl (lv_at hl 0 rfl) ?_
                refine lv_iload_n hx hb dX5_film_87 rfl (lv_at hl 1 rfl) ?_
                refine lv_iload hx hb dX5_film_88 (lv_at hl 4 rfl) ?_
                refine lv_iload_n hx hb dX5_film_90 rfl (lv_at hl 3 rfl) ?_
                obtain ⟨hne, hw⟩ := hw
                refine lv_idiv hx hb dX5_film_91 hne ?_
                refine lv_iload hx hb dX5_film_92 (lv_at hl 4 rfl) ?_
                refine lv_iload_n hx hb dX5_film_94 rfl (lv_at hl 3 rfl) ?_
                obtain ⟨hne, hw⟩ := hw
                refine lv_irem hx hb dX5_film_95 hne ?_
                obtain ⟨a_122, ci_123, fs_124, er, he, hc, hw⟩ := zo_e hw
                obtain rfl := List.mem_singleton.mp hc
                refine zr_callv (zw_runV (As := [.int x1, .int (x_48 / x_47), .int (x_48 - x_48 / x_47 * x_47)]) hk hH hz hS hl.1 er hw (cwV 3 hts (lw_V q3213 q3215 qs116 q162 q3216) rfl rfl rfl (by decide +kernel) (z_room (Nat.le_of_ble_eq_true rfl))) he rfl rfl rfl (Nat.le_of_ble_eq_true rfl) dX5_film_96 ⟨Nat.le_of_ble_eq_true rfl, Nat.le_of_ble_eq_true rfl⟩) hS (fun hp_68 nx_69 hw H locs hH hz hS => ?_)
                refine zr_aload_n (r := some h0) hx hb dX5_film_99 rfl (lv_at hl 0 rfl) ?_
                obtain ⟨a_70, ci_71, fs_72, r_73, er, he, hc, hv, hw⟩ := zgR_e hw
                refine zw_get hk hH er he hv (fk_X5_171 hc) dX5_film_100 ?_
                refine lv_iload_n hx hb dX5_film_103 rfl (lv_at hl 2 rfl) ?_
                obtain ⟨a_74, n_75, f_76, er, he, hi, hw⟩ := zaR_e hw
                have hw := hw _ rfl
                refine zw_aald hk hH 15 er he rfl rfl hi dX5_film_104 ?_
                generalize f_76 x2.toNatClampNeg = r_77 at hw ⊢
                refine lv_iload hx hb dX5_film_105 (lv_at hl 4 rfl) ?_
                refine zr_aload_n (r := some h0) hx hb dX5_film_107 rfl (lv_at hl 0 rfl) ?_
                obtain ⟨a_78, ci_79, fs_80, x_81, er, he, hc, hv, hw⟩ := zgI_e hw
                refine zw_get hk hH er he hv (fk_X5_286 hc) dX5_film_108 ?_
                obtain ⟨P_122, hP_122, hw⟩ := hw
                have hJ_122 : ∀ (x_82 : Int32) (x_83 : Int32) (r_84 : Option Nat) (x_85 : Int32) (x_86 : UInt64) (hp_87 : zHp) (nx_88 : Nat) (H : Heap) (locs : List Loc) (ls : Array Slot), P_122 x_82 x_83 r_84 x_85 x_86 hp_87 nx_88 → lv_has ls 5 [(0, va_rf (some h0)), (1, .int x1), (2, .int x2), (3, .int x_82), (4, .int x_83)] → zHd g hp_87 H → H.size = nx_88 → va_S (zAd g) s.heap H locs → W p l e (zrm (d + 1) 0 0) s m ([.ref h0, .int x1, .int x2] : List Value).toArray below meth c H locs 0 0 (MQ below (zQi g Post) ([.ref h0, .int x1, .int x2] : List Value).toArray s 0 0 (zAd g)) (F0 m 122 ls [.double x_86, .int x_85, va_rf r_84]) := by
                  intro x_82 x_83 r_84 x_85 x_86 hp_87 nx_88 H locs ls hw hl hH hz hS
                  have hw := hP_122 x_82 x_83 r_84 x_85 x_86 hp_87 nx_88 hw
                  obtain ⟨a_89, n_90, f_91, er, he, hi, hA, hw⟩ := zaD_e hw
                  obtain ⟨hp_92, eh⟩ : ∃ y : zHp, y = va_up hp_87 a_89 (some (.inl (g.2.1 1, n_90, .inr (.inr (.inr (.inl (va_up f_91 x_85.toNatClampNeg x_86))))))) := ⟨_, rfl⟩
                  have hw := hw hp_92 eh
                  refine zw_dast hk hH hz hS er he hi hA eh dX5_film_122 (fun H locs hH hz hS => ?_)
                  refine zr_aload_n (r := some h0) hx hb dX5_film_123 rfl (lv_at hl 0 rfl) ?_
                  obtain ⟨a_93, ci_94, fs_95, r_96, er, he, hc, hv, hw⟩ := zgR_e hw
                  refine zw_get hk hH er he hv (fk_X5_174 hc) dX5_film_124 ?_
                  refine lv_iload_n hx hb dX5_film_127 rfl (lv_at hl 2 rfl) ?_
                  obtain ⟨a_97, n_98, f_99, er, he, hi, hw⟩ := zaR_e hw
                  have hw := hw _ rfl
                  refine zw_aald hk hH 16 er he rfl rfl hi dX5_film_128 ?_
                  generalize f_99 x2.toNatClampNeg = r_100 at hw ⊢
                  refine lv_iload hx hb dX5_film_129 (lv_at hl 4 rfl) ?_
                  refine zr_aload_n (r := some h0) hx hb dX5_film_131 rfl (lv_at hl 0 rfl) ?_
                  obtain ⟨a_101, ci_102, fs_103, x_104, er, he, hc, hv, hw⟩ := zgI_e hw
                  refine zw_get hk hH er he hv (fk_X5_286 hc) dX5_film_132 ?_
                  obtain ⟨P_143, hP_143, hw⟩ := hw
                  have hJ_143 : ∀ (x_105 : Int32) (x_106 : Int32) (r_107 : Option Nat) (x_108 : Int32) (x_109 : Int32) (hp_110 : zHp) (nx_111 : Nat) (H : Heap) (locs : List Loc) (ls : Array Slot), P_143 x_105 x_106 r_107 x_108 x_109 hp_110 nx_111 → lv_has ls 5 [(0, va_rf (some h0)), (1, .int x1), (2, .int x2), (3, .int x_105), (4, .int x_106)] → zHd g hp_110 H → H.size = nx_111 → va_S (zAd g) s.heap H locs → W p l e (zrm (d + 1) 0 0) s m ([.ref h0, .int x1, .int x2] : List Value).toArray below meth c H locs 0 0 (MQ below (zQi g Post) ([.ref h0, .int x1, .int x2] : List Value).toArray s 0 0 (zAd g)) (F0 m 143 ls [.int x_109, .int x_108, va_rf r_107]) := by
                    intro x_105 x_106 r_107 x_108 x_109 hp_110 nx_111 H locs ls hw hl hH hz hS
                    have hw := hP_143 x_105 x_106 r_107 x_108 x_109 hp_110 nx_111 hw
                    obtain ⟨a_112, n_113, f_114, er, he, hi, hA, hw⟩ := zaI_e hw
                    obtain ⟨hp_115, eh⟩ : ∃ y : zHp, y = va_up hp_110 a_112 (some (.inl (g.2.1 3, n_113, .inl (va_up f_114 x_108.toNatClampNeg (vp_nar .boolean x_109))))) := ⟨_, rfl⟩
                    have hw := hw hp_115 eh
                    refine zw_zast hk hH hz hS er he hi hA eh dX5_film_143 (fun H locs hH hz hS => ?_)
                    obtain ⟨x_116, ex_116⟩ : ∃ y : Int32, y = x_106 + (1 : Int32) := ⟨_, rfl⟩
                    have hw := hw x_116 ex_116
                    refine lv_iinc (v := x_116) (lv' := [(4, .int x_116), (0, va_rf (some h0)), (1, .int x1), (2, .int x2), (3, .int x_105)]) hx hb dX5_film_144 hl (k := 4) rfl (by rw [ex_116]; rfl) (by decide) (by first | rfl | simp [List.filter_cons, z_cat, z_catI, z_catJ, z_catF, z_catD]) (fun ls hl => ?_)
                    refine lv_goto (tgt := 75) hx hb dX5_film_147 (by decide) ?_
                    obtain ⟨k_117, hlt, hw⟩ := hw
                    exact ih_75 k_117 hlt x_105 x_116 hp_115 nx_111 _ _ _ hw (lv_sub hl [1, 2, 3, 4, 0] rfl) hH hz hS
                  refine lv_if_eq (tgt := 142) hx hb dX5_film_135 (by decide) (fun hc => ?_) (fun hc => ?_)
                  · have hw := hw.1 hc
                    refine lv_iconst (v := (0 : Int32)) hx hb dX5_film_142 (by decide) ?_
                    exact hJ_143 x_82 x_83 r_100 x_83 (0 : Int32) hp_92 nx_88 _ _ _ hw hl hH hz hS
                  · have hw := hw.2 hc
                    refine lv_iconst (v := (1 : Int32)) hx hb dX5_film_138 (by decide) ?_
                    refine lv_goto (tgt := 143) hx hb dX5_film_139 (by decide) ?_
                    exact hJ_143 x_82 x_83 r_100 x_83 (1 : Int32) hp_92 nx_88 _ _ _ hw hl hH hz hS
                refine lv_if_ne (tgt := 121) hx hb dX5_film_111 (by decide) (fun hc => ?_) (fun hc => ?_)
                · have hw := hw.2 hc
                  refine lv_dconst0 hx hb dX5_film_121 ?_
                  exact hJ_122 x_47 x_48 r_77 x_48 FP.dconst0 hp_68 nx_69 _ _ _ hw hl hH hz hS
                · have hw := hw.1 hc
                  refine zr_aload_n (r := some h0) hx hb dX5_film_114 rfl (lv_at hl 0 rfl) ?_
                  obtain ⟨a_118, ci_119, fs_120, x_121, er, he, hc, hv, hw⟩ := zgD_e hw
                  refine zw_get hk hH er he hv (fk_X5_282 hc) dX5_film_115 ?_
                  refine lv_goto (tgt := 122) hx hb dX5_film_118 (by decide) ?_
                  exact hJ_122 x_47 x_48 r_77 x_48 x_121 hp_68 nx_69 _ _ _ hw hl hH hz hS
          exact hL_75 n_125 x_25 (0 : Int32) hp_46 nx_41 _ _ _ hI (lv_sub hl [2, 3, 4, 1, 0] rfl) hH hz hS
        refine lv_icmp_ne (tgt := 43) hx hb dX5_film_36 (by decide) (fun hc => ?_) (fun hc => ?_)
        · have hw := hw.2 hc
          refine zr_aload_n (r := some h0) hx hb dX5_film_43 rfl (lv_at hl 0 rfl) ?_
          obtain ⟨a_129, ci_130, fs_131, r_132, er, he, hc, hv, hw⟩ := zgR_e hw
          refine zw_get hk hH er he hv (fk_X5_46 hc) dX5_film_44 ?_
          refine lv_iconst (v := (2 : Int32)) hx hb dX5_film_47 (by decide) ?_
          refine lv_iload_n hx hb dX5_film_48 rfl (lv_at hl 1 rfl) ?_
          refine lv_imul hx hb dX5_film_49 ?_
          refine lv_iconst (v := (1 : Int32)) hx hb dX5_film_50 (by decide) ?_
          refine lv_iadd hx hb dX5_film_51 ?_
          obtain ⟨a_133, n_134, f_135, er, he, hi, hw⟩ := zaI_e hw
          have hw := hw _ rfl
          refine zw_iald hk hH er he hi dX5_film_52 ?_
          generalize f_135 (((2 : Int32) * x1) + (1 : Int32)).toNatClampNeg = x_136 at hw ⊢
          exact hJ_53 x_136 hp_6 nx_7 _ _ _ hw hl hH hz hS
        · have hw := hw.1 hc
          refine lv_iconst (v := (1 : Int32)) hx hb dX5_film_39 (by decide) ?_
          refine lv_goto (tgt := 53) hx hb dX5_film_40 (by decide) ?_
          exact hJ_53 (1 : Int32) hp_6 nx_7 _ _ _ hw hl hH hz hS
      · have hw := hw.1 hc
        refine lv_bipush (v := (-3 : Int32)) hx hb dX5_film_26 (by decide) ?_
        exact zr_iret hk hr hH hz hS hw (Nat.le_of_ble_eq_true rfl) (Nat.le_of_ble_eq_true rfl) dX5_film_28
    · have hw := hw.1 hc
      exact hJ_14 hp_6 nx_7 _ _ _ hw hl hH hz hS
def wp_X5_tells (l : Launch) (g : zG) (d : Nat) (h0 : Nat) (x1 : Int32) (x2 : Int32) (x3 : Int32) (x4 : Int32) (hp : zHp) (nx : Nat) (Post : Int32 → zHp → Nat → Prop) : Prop :=
  (zMt l g yX5_isTable cX5_isTable 1 (some .boolean) d 0 0 [.int x1] hp nx (zQi g fun x_3 hp_1 nx_2 =>
  (∃ P_31 : zHp → Nat → Prop, (∀ (hp_4 : zHp) (nx_5 : Nat), P_31 hp_4 nx_5 →
  (Post (-2 : Int32) hp_4 nx_5)) ∧
  ((x_3 = 0 →
  P_31 hp_1 nx_2) ∧
  (¬ x_3 = 0 →
  (zMt l g yX5_isRow cX5_isRow 1 (some .boolean) d 0 0 [.int x2] hp_1 nx_2 (zQi g fun x_8 hp_6 nx_7 =>
  ((x_8 = 0 →
  P_31 hp_6 nx_7) ∧
  (¬ x_8 = 0 →
  (zMt l g yX5_isCell cX5_isCell 1 (some .boolean) d 0 0 [.int x3] hp_6 nx_7 (zQi g fun x_11 hp_9 nx_10 =>
  ((x_11 = 0 →
  P_31 hp_9 nx_10) ∧
  (¬ x_11 = 0 →
  (zMt l g yX5_in cX5_in 3 (some .boolean) d 0 0 [.int x4, .int (0 : Int32), .int (3 : Int32)] hp_9 nx_10 (zQi g fun x_14 hp_12 nx_13 =>
  ((x_14 = 0 →
  P_31 hp_12 nx_13) ∧
  (¬ x_14 = 0 →
  (zgR hp_12 (some h0) [5] 6 fun r_18 =>
  (zaI (g.2.1 3) hp_12 r_18 fun a_19 n_20 f_21 => vp_in x1 n_20 ∧ ∀ x_22 : Int32, x_22 = f_21 x1.toNatClampNeg →
  (∃ P_57 : zHp → Nat → Prop, (∀ (hp_23 : zHp) (nx_24 : Nat), P_57 hp_23 nx_24 →
  (Post (-3 : Int32) hp_23 nx_24)) ∧
  ((x_22 = 0 →
  P_57 hp_12 nx_13) ∧
  (¬ x_22 = 0 →
  (∃ P_60 : zHp → Nat → Prop, (∀ (hp_25 : zHp) (nx_26 : Nat), P_60 hp_25 nx_26 →
  (zgR hp_25 (some h0) [5] 70 fun r_30 =>
  (zaI (g.2.1 0) hp_25 r_30 fun a_31 n_32 f_33 => vp_in x2 n_32 ∧ ∀ x_34 : Int32, x_34 = f_33 x2.toNatClampNeg →
  ((0 ≤ x_34 →
  (zgR hp_25 (some h0) [5] 70 fun r_38 =>
  (zaI (g.2.1 0) hp_25 r_38 fun a_39 n_40 f_41 => vp_in x2 n_40 ∧ ∀ x_42 : Int32, x_42 = f_41 x2.toNatClampNeg →
  ((x_42 = (3 : Int32) →
  (zgR hp_25 (some h0) [5] 71 fun r_46 =>
  (zaI (g.2.1 0) hp_25 r_46 fun a_47 n_48 f_49 => vp_in x2 n_48 ∧ ∀ x_50 : Int32, x_50 = f_49 x2.toNatClampNeg →
  (zo hp_25 (some h0) [5] fun a_82 ci_83 fs_84 => zMt l g yX5_cases cX5_cases 2 (some .int) d 0 0 (.ref a_82 :: [.int x1]) hp_25 nx_26 (zQi g fun x_53 hp_51 nx_52 =>
  ((x_50 = x_53 →
  (∃ P_150 : Int32 → zHp → Nat → Prop, (∀ (x_54 : Int32) (hp_55 : zHp) (nx_56 : Nat), P_150 x_54 hp_55 nx_56 →
  (Post x_54 hp_55 nx_56)) ∧
  ((x4 = 0 →
  (zo hp_51 (some h0) [5] fun a_79 ci_80 fs_81 => zMt l g yX5_otherwise cX5_otherwise 5 (some .int) d 0 0 (.ref a_79 :: [.int x1, .int x2]) hp_51 nx_52 (zQi g fun x_78 hp_76 nx_77 =>
  P_150 x_78 hp_76 nx_77))) ∧
  (¬ x4 = 0 →
  ((x4 = (1 : Int32) →
  (zo hp_51 (some h0) [5] fun a_73 ci_74 fs_75 => zMt l g yX5_kindsBy cX5_kindsBy 7 (some .int) d 0 0 (.ref a_73 :: [.int x1, .int x2, .int x3]) hp_51 nx_52 (zQi g fun x_72 hp_70 nx_71 =>
  P_150 x_72 hp_70 nx_71))) ∧
  (¬ x4 = (1 : Int32) →
  (∃ P_147 : (Option Nat) → Int32 → Int32 → Int32 → Int32 → zHp → Nat → Prop, (∀ (r_57 : Option Nat) (x_58 : Int32) (x_59 : Int32) (x_60 : Int32) (x_61 : Int32) (hp_62 : zHp) (nx_63 : Nat), P_147 r_57 x_58 x_59 x_60 x_61 hp_62 nx_63 →
  (zo hp_62 r_57 [5] fun a_67 ci_68 fs_69 => zMt l g yX5_numbersBy cX5_numbersBy 11 (some .int) d 0 0 (.ref a_67 :: [.int x_58, .int x_59, .int x_60, .int x_61]) hp_62 nx_63 (zQi g fun x_66 hp_64 nx_65 =>
  P_150 x_66 hp_64 nx_65))) ∧
  ((x4 = (3 : Int32) →
  P_147 (some h0) x1 x2 x3 (1 : Int32) hp_51 nx_52) ∧
  (¬ x4 = (3 : Int32) →
  P_147 (some h0) x1 x2 x3 (0 : Int32) hp_51 nx_52))))))))) ∧
  (¬ x_50 = x_53 →
  (Post (-2 : Int32) hp_51 nx_52)))))))) ∧
  (¬ x_42 = (3 : Int32) →
  (Post (-13 : Int32) hp_25 nx_26)))))) ∧
  (¬ 0 ≤ x_34 →
  (Post (-11 : Int32) hp_25 nx_26)))))) ∧
  ((x4 ≤ (1 : Int32) →
  P_60 hp_12 nx_13) ∧
  (¬ x4 ≤ (1 : Int32) →
  (zo hp_12 (some h0) [5] fun a_88 ci_89 fs_90 => zMt l g yX5_isInput cX5_isInput 2 (some .boolean) d 0 0 (.ref a_88 :: [.int x3]) hp_12 nx_13 (zQi g fun x_87 hp_85 nx_86 =>
  ((x_87 = 0 →
  P_57 hp_85 nx_86) ∧
  (¬ x_87 = 0 →
  P_60 hp_85 nx_86)))))))))))))))))))))))))))))
set_option maxHeartbeats 40000000 in
theorem met_X5_tells {l : Launch} {g : zG} {d : Nat} {h0 : Nat} {x1 : Int32} {x2 : Int32} {x3 : Int32} {x4 : Int32} {hp : zHp} {nx : Nat} {Post : Int32 → zHp → Nat → Prop} (hw : wp_X5_tells l g d h0 x1 x2 x3 x4 hp nx Post) : zMt l g yX5_tells cX5_tells 5 (some .int) (d + 1) 0 0 [.ref h0, .int x1, .int x2, .int x3, .int x4] hp nx (zQi g Post) := by
  refine z_start (by decide) (Nat.le_of_ble_eq_true rfl) ?_
  intro p e s m below meth c hk hr hin hH hz ls hl
  have hx := hk.1.1
  have hb := hk.1.2.1
  have hown := hk.1.2.2.2.1
  have hts := hk.1.2.2.2.2
  have hS : va_S (zAd g) s.heap s.heap [] := va_S.rf
  have hl : lv_has ls 5 [(0, va_rf (some h0)), (1, .int x1), (2, .int x2), (3, .int x3), (4, .int x4)] := hl
  unfold wp_X5_tells at hw
  refine lv_iload_n hx hb dX5_tells_0 rfl (lv_at hl 1 rfl) ?_
  refine zr_calli (zr_runS (As := [.int x1]) hk hH hz hS hl.1 hw (va_cwS 1 hts (lw_S q3181 q3182 q162 q3183) rfl rfl rfl (by decide +kernel) (z_room (Nat.le_of_ble_eq_true rfl))) rfl rfl (Nat.le_of_ble_eq_true rfl) dX5_tells_1 ⟨Nat.le_of_ble_eq_true rfl, Nat.le_of_ble_eq_true rfl⟩) hS (fun x_3 hp_1 nx_2 hw H locs hH hz hS => ?_)
  obtain ⟨P_31, hP_31, hw⟩ := hw
  have hJ_31 : ∀ (hp_4 : zHp) (nx_5 : Nat) (H : Heap) (locs : List Loc) (ls : Array Slot), P_31 hp_4 nx_5 → lv_has ls 5 [(0, va_rf (some h0)), (1, .int x1), (2, .int x2), (3, .int x3), (4, .int x4)] → zHd g hp_4 H → H.size = nx_5 → va_S (zAd g) s.heap H locs → W p l e (zrm (d + 1) 0 0) s m ([.ref h0, .int x1, .int x2, .int x3, .int x4] : List Value).toArray below meth c H locs 0 0 (MQ below (zQi g Post) ([.ref h0, .int x1, .int x2, .int x3, .int x4] : List Value).toArray s 0 0 (zAd g)) (F0 m 31 ls []) := by
    intro hp_4 nx_5 H locs ls hw hl hH hz hS
    have hw := hP_31 hp_4 nx_5 hw
    refine lv_bipush (v := (-2 : Int32)) hx hb dX5_tells_31 (by decide) ?_
    exact zr_iret hk hr hH hz hS hw (Nat.le_of_ble_eq_true rfl) (Nat.le_of_ble_eq_true rfl) dX5_tells_33
  refine lv_if_eq (tgt := 31) hx hb dX5_tells_4 (by decide) (fun hc => ?_) (fun hc => ?_)
  · have hw := hw.1 hc
    exact hJ_31 hp_1 nx_2 _ _ _ hw hl hH hz hS
  · have hw := hw.2 hc
    refine lv_iload_n hx hb dX5_tells_7 rfl (lv_at hl 2 rfl) ?_
    refine zr_calli (zr_runS (As := [.int x2]) hk hH hz hS hl.1 hw (va_cwS 1 hts (lw_S q3198 q3199 q162 q3200) rfl rfl rfl (by decide +kernel) (z_room (Nat.le_of_ble_eq_true rfl))) rfl rfl (Nat.le_of_ble_eq_true rfl) dX5_tells_8 ⟨Nat.le_of_ble_eq_true rfl, Nat.le_of_ble_eq_true rfl⟩) hS (fun x_8 hp_6 nx_7 hw H locs hH hz hS => ?_)
    refine lv_if_eq (tgt := 31) hx hb dX5_tells_11 (by decide) (fun hc => ?_) (fun hc => ?_)
    · have hw := hw.1 hc
      exact hJ_31 hp_6 nx_7 _ _ _ hw hl hH hz hS
    · have hw := hw.2 hc
      refine lv_iload_n hx hb dX5_tells_14 rfl (lv_at hl 3 rfl) ?_
      refine zr_calli (zr_runS (As := [.int x3]) hk hH hz hS hl.1 hw (va_cwS 1 hts (lw_S q2908 q2909 q162 q2910) rfl rfl rfl (by decide +kernel) (z_room (Nat.le_of_ble_eq_true rfl))) rfl rfl (Nat.le_of_ble_eq_true rfl) dX5_tells_15 ⟨Nat.le_of_ble_eq_true rfl, Nat.le_of_ble_eq_true rfl⟩) hS (fun x_11 hp_9 nx_10 hw H locs hH hz hS => ?_)
      refine lv_if_eq (tgt := 31) hx hb dX5_tells_18 (by decide) (fun hc => ?_) (fun hc => ?_)
      · have hw := hw.1 hc
        exact hJ_31 hp_9 nx_10 _ _ _ hw hl hH hz hS
      · have hw := hw.2 hc
        refine lv_iload hx hb dX5_tells_21 (lv_at hl 4 rfl) ?_
        refine lv_iconst (v := (0 : Int32)) hx hb dX5_tells_23 (by decide) ?_
        refine lv_iconst (v := (3 : Int32)) hx hb dX5_tells_24 (by decide) ?_
        refine zr_calli (zr_runS (As := [.int x4, .int (0 : Int32), .int (3 : Int32)]) hk hH hz hS hl.1 hw (va_cwS 3 hts (lw_S q2911 q2912 q162 q2913) rfl rfl rfl (by decide +kernel) (z_room (Nat.le_of_ble_eq_true rfl))) rfl rfl (Nat.le_of_ble_eq_true rfl) dX5_tells_25 ⟨Nat.le_of_ble_eq_true rfl, Nat.le_of_ble_eq_true rfl⟩) hS (fun x_14 hp_12 nx_13 hw H locs hH hz hS => ?_)
        refine lv_if_ne (tgt := 34) hx hb dX5_tells_28 (by decide) (fun hc => ?_) (fun hc => ?_)
        · have hw := hw.2 hc
          refine zr_aload_n (r := some h0) hx hb dX5_tells_34 rfl (lv_at hl 0 rfl) ?_
          obtain ⟨a_15, ci_16, fs_17, r_18, er, he, hc, hv, hw⟩ := zgR_e hw
          refine zw_get hk hH er he hv (fk_X5_34 hc) dX5_tells_35 ?_
          refine lv_iload_n hx hb dX5_tells_38 rfl (lv_at hl 1 rfl) ?_
          obtain ⟨a_19, n_20, f_21, er, he, hi, hw⟩ := zaI_e hw
          have hw := hw _ rfl
          refine zw_zald hk hH er he hi dX5_tells_39 ?_
          generalize f_21 x1.toNatClampNeg = x_22 at hw ⊢
          obtain ⟨P_57, hP_57, hw⟩ := hw
          have hJ_57 : ∀ (hp_23 : zHp) (nx_24 : Nat) (H : Heap) (locs : List Loc) (ls : Array Slot), P_57 hp_23 nx_24 → lv_has ls 5 [(0, va_rf (some h0)), (1, .int x1), (2, .int x2), (3, .int x3), (4, .int x4)] → zHd g hp_23 H → H.size = nx_24 → va_S (zAd g) s.heap H locs → W p l e (zrm (d + 1) 0 0) s m ([.ref h0, .int x1, .int x2, .int x3, .int x4] : List Value).toArray below meth c H locs 0 0 (MQ below (zQi g Post) ([.ref h0, .int x1, .int x2, .int x3, .int x4] : List Value).toArray s 0 0 (zAd g)) (F0 m 57 ls []) := by
            intro hp_23 nx_24 H locs ls hw hl hH hz hS
            have hw := hP_57 hp_23 nx_24 hw
            refine lv_bipush (v := (-3 : Int32)) hx hb dX5_tells_57 (by decide) ?_
            exact zr_iret hk hr hH hz hS hw (Nat.le_of_ble_eq_true rfl) (Nat.le_of_ble_eq_true rfl) dX5_tells_59
          refine lv_if_eq (tgt := 57) hx hb dX5_tells_40 (by decide) (fun hc => ?_) (fun hc => ?_)
          · have hw := hw.1 hc
            exact hJ_57 hp_12 nx_13 _ _ _ hw hl hH hz hS
          · have hw := hw.2 hc
            refine lv_iload hx hb dX5_tells_43 (lv_at hl 4 rfl) ?_
            refine lv_iconst (v := (1 : Int32)) hx hb dX5_tells_45 (by decide) ?_
            obtain ⟨P_60, hP_60, hw⟩ := hw
            have hJ_60 : ∀ (hp_25 : zHp) (nx_26 : Nat) (H : Heap) (locs : List Loc) (ls : Array Slot), P_60 hp_25 nx_26 → lv_has ls 5 [(0, va_rf (some h0)), (1, .int x1), (2, .int x2), (3, .int x3), (4, .int x4)] → zHd g hp_25 H → H.size = nx_26 → va_S (zAd g) s.heap H locs → W p l e (zrm (d + 1) 0 0) s m ([.ref h0, .int x1, .int x2, .int x3, .int x4] : List Value).toArray below meth c H locs 0 0 (MQ below (zQi g Post) ([.ref h0, .int x1, .int x2, .int x3, .int x4] : List Value).toArray s 0 0 (zAd g)) (F0 m 60 ls []) := by
              intro hp_25 nx_26 H locs ls hw hl hH hz hS
              have hw := hP_60 hp_25 nx_26 hw
              refine zr_aload_n (r := some h0) hx hb dX5_tells_60 rfl (lv_at hl 0 rfl) ?_
              obtain ⟨a_27, ci_28, fs_29, r_30, er, he, hc, hv, hw⟩ := zgR_e hw
              refine zw_get hk hH er he hv (fk_X5_165 hc) dX5_tells_61 ?_
              refine lv_iload_n hx hb dX5_tells_64 rfl (lv_at hl 2 rfl) ?_
              obtain ⟨a_31, n_32, f_33, er, he, hi, hw⟩ := zaI_e hw
              have hw := hw _ rfl
              refine zw_iald hk hH er he hi dX5_tells_65 ?_
              generalize f_33 x2.toNatClampNeg = x_34 at hw ⊢
              refine lv_if_ge (tgt := 72) hx hb dX5_tells_66 (by decide) (fun hc => ?_) (fun hc => ?_)
              · have hw := hw.1 hc
                refine zr_aload_n (r := some h0) hx hb dX5_tells_72 rfl (lv_at hl 0 rfl) ?_
                obtain ⟨a_35, ci_36, fs_37, r_38, er, he, hc, hv, hw⟩ := zgR_e hw
                refine zw_get hk hH er he hv (fk_X5_165 hc) dX5_tells_73 ?_
                refine lv_iload_n hx hb dX5_tells_76 rfl (lv_at hl 2 rfl) ?_
                obtain ⟨a_39, n_40, f_41, er, he, hi, hw⟩ := zaI_e hw
                have hw := hw _ rfl
                refine zw_iald hk hH er he hi dX5_tells_77 ?_
                generalize f_41 x2.toNatClampNeg = x_42 at hw ⊢
                refine lv_iconst (v := (3 : Int32)) hx hb dX5_tells_78 (by decide) ?_
                refine lv_icmp_eq (tgt := 85) hx hb dX5_tells_79 (by decide) (fun hc => ?_) (fun hc => ?_)
                · have hw := hw.1 hc
                  refine zr_aload_n (r := some h0) hx hb dX5_tells_85 rfl (lv_at hl 0 rfl) ?_
                  obtain ⟨a_43, ci_44, fs_45, r_46, er, he, hc, hv, hw⟩ := zgR_e hw
                  refine zw_get hk hH er he hv (fk_X5_168 hc) dX5_tells_86 ?_
                  refine lv_iload_n hx hb dX5_tells_89 rfl (lv_at hl 2 rfl) ?_
                  obtain ⟨a_47, n_48, f_49, er, he, hi, hw⟩ := zaI_e hw
                  have hw := hw _ rfl
                  refine zw_iald hk hH er he hi dX5_tells_90 ?_
                  generalize f_49 x2.toNatClampNeg = x_50 at hw ⊢
                  refine zr_aload_n (r := some h0) hx hb dX5_tells_91 rfl (lv_at hl 0 rfl) ?_
                  refine lv_iload_n hx hb dX5_tells_92 rfl (lv_at hl 1 rfl) ?_
                  obtain ⟨a_82, ci_83, fs_84, er, he, hc, hw⟩ := zo_e hw
                  obtain rfl := List.mem_singleton.mp hc
                  refine zr_calli (zw_runV (As := [.int x1]) hk hH hz hS hl.1 er hw (cwV 1 hts (lw_V q2986 q2988 qs80 q162 q2989) rfl rfl rfl (by decide +kernel) (z_room (Nat.le_of_ble_eq_true rfl))) he rfl rfl rfl (Nat.le_of_ble_eq_true rfl) dX5_tells_93 ⟨Nat.le_of_ble_eq_true rfl, Nat.le_of_ble_eq_true rfl⟩) hS (fun x_53 hp_51 nx_52 hw H locs hH hz hS => ?_)
                  refine lv_icmp_eq (tgt := 102) hx hb dX5_tells_96 (by decide) (fun hc => ?_) (fun hc => ?_)
                  · have hw := hw.1 hc
                    refine lv_iload hx hb dX5_tells_102 (lv_at hl 4 rfl) ?_
                    obtain ⟨P_150, hP_150, hw⟩ := hw
                    have hJ_150 : ∀ (x_54 : Int32) (hp_55 : zHp) (nx_56 : Nat) (H : Heap) (locs : List Loc) (ls : Array Slot), P_150 x_54 hp_55 nx_56 → lv_has ls 5 [(0, va_rf (some h0)), (1, .int x1), (2, .int x2), (3, .int x3), (4, .int x4)] → zHd g hp_55 H → H.size = nx_56 → va_S (zAd g) s.heap H locs → W p l e (zrm (d + 1) 0 0) s m ([.ref h0, .int x1, .int x2, .int x3, .int x4] : List Value).toArray below meth c H locs 0 0 (MQ below (zQi g Post) ([.ref h0, .int x1, .int x2, .int x3, .int x4] : List Value).toArray s 0 0 (zAd g)) (F0 m 150 ls [.int x_54]) := by
                      intro x_54 hp_55 nx_56 H locs ls hw hl hH hz hS
                      have hw := hP_150 x_54 hp_55 nx_56 hw
                      exact zr_iret hk hr hH hz hS hw (Nat.le_of_ble_eq_true rfl) (Nat.le_of_ble_eq_true rfl) dX5_tells_150
                    refine lv_if_ne (tgt := 116) hx hb dX5_tells_104 (by decide) (fun hc => ?_) (fun hc => ?_)
                    · have hw := hw.2 hc
                      refine lv_iload hx hb dX5_tells_116 (lv_at hl 4 rfl) ?_
                      refine lv_iconst (v := (1 : Int32)) hx hb dX5_tells_118 (by decide) ?_
                      refine lv_icmp_ne (tgt := 132) hx hb dX5_tells_119 (by decide) (fun hc => ?_) (fun hc => ?_)
                      · have hw := hw.2 hc
                        refine zr_aload_n (r := some h0) hx hb dX5_tells_132 rfl (lv_at hl 0 rfl) ?_
                        refine lv_iload_n hx hb dX5_tells_133 rfl (lv_at hl 1 rfl) ?_
                        refine lv_iload_n hx hb dX5_tells_134 rfl (lv_at hl 2 rfl) ?_
                        refine lv_iload_n hx hb dX5_tells_135 rfl (lv_at hl 3 rfl) ?_
                        refine lv_iload hx hb dX5_tells_136 (lv_at hl 4 rfl) ?_
                        refine lv_iconst (v := (3 : Int32)) hx hb dX5_tells_138 (by decide) ?_
                        obtain ⟨P_147, hP_147, hw⟩ := hw
                        have hJ_147 : ∀ (r_57 : Option Nat) (x_58 : Int32) (x_59 : Int32) (x_60 : Int32) (x_61 : Int32) (hp_62 : zHp) (nx_63 : Nat) (H : Heap) (locs : List Loc) (ls : Array Slot), P_147 r_57 x_58 x_59 x_60 x_61 hp_62 nx_63 → lv_has ls 5 [(0, va_rf (some h0)), (1, .int x1), (2, .int x2), (3, .int x3), (4, .int x4)] → zHd g hp_62 H → H.size = nx_63 → va_S (zAd g) s.heap H locs → W p l e (zrm (d + 1) 0 0) s m ([.ref h0, .int x1, .int x2, .int x3, .int x4] : List Value).toArray below meth c H locs 0 0 (MQ below (zQi g Post) ([.ref h0, .int x1, .int x2, .int x3, .int x4] : List Value).toArray s 0 0 (zAd g)) (F0 m 147 ls [.int x_61, .int x_60, .int x_59, .int x_58, va_rf r_57]) := by
                          intro r_57 x_58 x_59 x_60 x_61 hp_62 nx_63 H locs ls hw hl hH hz hS
                          have hw := hP_147 r_57 x_58 x_59 x_60 x_61 hp_62 nx_63 hw
                          obtain ⟨a_67, ci_68, fs_69, er, he, hc, hw⟩ := zo_e hw
                          obtain rfl := List.mem_singleton.mp hc
                          refine zr_calli (zw_runV (As := [.int x_58, .int x_59, .int x_60, .int x_61]) hk hH hz hS hl.1 er hw (cwV 4 hts (lw_V q3306 q3308 qs127 q162 q3309) rfl rfl rfl (by decide +kernel) (z_room (Nat.le_of_ble_eq_true rfl))) he rfl rfl rfl (Nat.le_of_ble_eq_true rfl) dX5_tells_147 ⟨Nat.le_of_ble_eq_true rfl, Nat.le_of_ble_eq_true rfl⟩) hS (fun x_66 hp_64 nx_65 hw H locs hH hz hS => ?_)
                          exact hJ_150 x_66 hp_64 nx_65 _ _ _ hw hl hH hz hS
                        refine lv_icmp_ne (tgt := 146) hx hb dX5_tells_139 (by decide) (fun hc => ?_) (fun hc => ?_)
                        · have hw := hw.2 hc
                          refine lv_iconst (v := (0 : Int32)) hx hb dX5_tells_146 (by decide) ?_
                          exact hJ_147 (some h0) x1 x2 x3 (0 : Int32) hp_51 nx_52 _ _ _ hw hl hH hz hS
                        · have hw := hw.1 hc
                          refine lv_iconst (v := (1 : Int32)) hx hb dX5_tells_142 (by decide) ?_
                          refine lv_goto (tgt := 147) hx hb dX5_tells_143 (by decide) ?_
                          exact hJ_147 (some h0) x1 x2 x3 (1 : Int32) hp_51 nx_52 _ _ _ hw hl hH hz hS
                      · have hw := hw.1 hc
                        refine zr_aload_n (r := some h0) hx hb dX5_tells_122 rfl (lv_at hl 0 rfl) ?_
                        refine lv_iload_n hx hb dX5_tells_123 rfl (lv_at hl 1 rfl) ?_
                        refine lv_iload_n hx hb dX5_tells_124 rfl (lv_at hl 2 rfl) ?_
                        refine lv_iload_n hx hb dX5_tells_125 rfl (lv_at hl 3 rfl) ?_
                        obtain ⟨a_73, ci_74, fs_75, er, he, hc, hw⟩ := zo_e hw
                        obtain rfl := List.mem_singleton.mp hc
                        refine zr_calli (zw_runV (As := [.int x1, .int x2, .int x3]) hk hH hz hS hl.1 er hw (cwV 3 hts (lw_V q3302 q3304 qs126 q162 q3305) rfl rfl rfl (by decide +kernel) (z_room (Nat.le_of_ble_eq_true rfl))) he rfl rfl rfl (Nat.le_of_ble_eq_true rfl) dX5_tells_126 ⟨Nat.le_of_ble_eq_true rfl, Nat.le_of_ble_eq_true rfl⟩) hS (fun x_72 hp_70 nx_71 hw H locs hH hz hS => ?_)
                        refine lv_goto (tgt := 150) hx hb dX5_tells_129 (by decide) ?_
                        exact hJ_150 x_72 hp_70 nx_71 _ _ _ hw hl hH hz hS
                    · have hw := hw.1 hc
                      refine zr_aload_n (r := some h0) hx hb dX5_tells_107 rfl (lv_at hl 0 rfl) ?_
                      refine lv_iload_n hx hb dX5_tells_108 rfl (lv_at hl 1 rfl) ?_
                      refine lv_iload_n hx hb dX5_tells_109 rfl (lv_at hl 2 rfl) ?_
                      obtain ⟨a_79, ci_80, fs_81, er, he, hc, hw⟩ := zo_e hw
                      obtain rfl := List.mem_singleton.mp hc
                      refine zr_calli (zw_runV (As := [.int x1, .int x2]) hk hH hz hS hl.1 er hw (cwV 2 hts (lw_V q3298 q3300 qs125 q162 q3301) rfl rfl rfl (by decide +kernel) (z_room (Nat.le_of_ble_eq_true rfl))) he rfl rfl rfl (Nat.le_of_ble_eq_true rfl) dX5_tells_110 ⟨Nat.le_of_ble_eq_true rfl, Nat.le_of_ble_eq_true rfl⟩) hS (fun x_78 hp_76 nx_77 hw H locs hH hz hS => ?_)
                      refine lv_goto (tgt := 150) hx hb dX5_tells_113 (by decide) ?_
                      exact hJ_150 x_78 hp_76 nx_77 _ _ _ hw hl hH hz hS
                  · have hw := hw.2 hc
                    refine lv_bipush (v := (-2 : Int32)) hx hb dX5_tells_99 (by decide) ?_
                    exact zr_iret hk hr hH hz hS hw (Nat.le_of_ble_eq_true rfl) (Nat.le_of_ble_eq_true rfl) dX5_tells_101
                · have hw := hw.2 hc
                  refine lv_bipush (v := (-13 : Int32)) hx hb dX5_tells_82 (by decide) ?_
                  exact zr_iret hk hr hH hz hS hw (Nat.le_of_ble_eq_true rfl) (Nat.le_of_ble_eq_true rfl) dX5_tells_84
              · have hw := hw.2 hc
                refine lv_bipush (v := (-11 : Int32)) hx hb dX5_tells_69 (by decide) ?_
                exact zr_iret hk hr hH hz hS hw (Nat.le_of_ble_eq_true rfl) (Nat.le_of_ble_eq_true rfl) dX5_tells_71
            refine lv_icmp_le (tgt := 60) hx hb dX5_tells_46 (by decide) (fun hc => ?_) (fun hc => ?_)
            · have hw := hw.1 hc
              exact hJ_60 hp_12 nx_13 _ _ _ hw hl hH hz hS
            · have hw := hw.2 hc
              refine zr_aload_n (r := some h0) hx hb dX5_tells_49 rfl (lv_at hl 0 rfl) ?_
              refine lv_iload_n hx hb dX5_tells_50 rfl (lv_at hl 3 rfl) ?_
              obtain ⟨a_88, ci_89, fs_90, er, he, hc, hw⟩ := zo_e hw
              obtain rfl := List.mem_singleton.mp hc
              refine zr_calli (zw_runV (As := [.int x3]) hk hH hz hS hl.1 er hw (cwV 1 hts (lw_V q2919 q2921 qs69 q162 q2922) rfl rfl rfl (by decide +kernel) (z_room (Nat.le_of_ble_eq_true rfl))) he rfl rfl rfl (Nat.le_of_ble_eq_true rfl) dX5_tells_51 ⟨Nat.le_of_ble_eq_true rfl, Nat.le_of_ble_eq_true rfl⟩) hS (fun x_87 hp_85 nx_86 hw H locs hH hz hS => ?_)
              refine lv_if_ne (tgt := 60) hx hb dX5_tells_54 (by decide) (fun hc => ?_) (fun hc => ?_)
              · have hw := hw.2 hc
                exact hJ_60 hp_85 nx_86 _ _ _ hw hl hH hz hS
              · have hw := hw.1 hc
                exact hJ_57 hp_85 nx_86 _ _ _ hw hl hH hz hS
        · have hw := hw.1 hc
          exact hJ_31 hp_12 nx_13 _ _ _ hw hl hH hz hS
def wp_X5_otherwise (l : Launch) (g : zG) (d : Nat) (h0 : Nat) (x1 : Int32) (x2 : Int32) (hp : zHp) (nx : Nat) (Post : Int32 → zHp → Nat → Prop) : Prop :=
  (zgR hp (some h0) [5] 9 fun r_4 =>
  (zaI (g.2.1 0) hp r_4 fun a_5 n_6 f_7 => vp_in x1 n_6 ∧ ∀ x_8 : Int32, x_8 = f_7 x1.toNatClampNeg →
  (∃ P_24 : Int32 → zHp → Nat → Prop, (∀ (x_9 : Int32) (hp_10 : zHp) (nx_11 : Nat), P_24 x_9 hp_10 nx_11 →
  (∃ I_28 : Nat → Int32 → Int32 → zHp → Nat → Prop, (∃ n_82, I_28 n_82 x_9 (0 : Int32) hp_10 nx_11) ∧ ∀ (n_16 : Nat) (x_12 : Int32) (x_13 : Int32) (hp_14 : zHp) (nx_15 : Nat), I_28 n_16 x_12 x_13 hp_14 nx_15 →
  (zgR hp_14 (some h0) [5] 71 fun r_20 =>
  (zaI (g.2.1 0) hp_14 r_20 fun a_21 n_22 f_23 => vp_in x2 n_22 ∧ ∀ x_24 : Int32, x_24 = f_23 x2.toNatClampNeg →
  ((x_24 ≤ x_13 →
  (Post (-1 : Int32) hp_14 nx_15)) ∧
  (¬ x_24 ≤ x_13 →
  (¬ x_12 = 0 ∧ (¬ x_12 = 0 ∧ (zo hp_14 (some h0) [5] fun a_79 ci_80 fs_81 => zMt l g yX5_tellCaseNow cX5_tellCaseNow 4 none d 0 0 (.ref a_79 :: [.int x1, .int (x_13 / x_12), .int (x_13 - x_13 / x_12 * x_12)]) hp_14 nx_15 (zQv g fun hp_25 nx_26 =>
  (zgR hp_25 (some h0) [5] 73 fun r_30 =>
  (zaR (g.2.1 16) hp_25 r_30 fun a_31 n_32 f_33 => vp_in x2 n_32 ∧ ∀ r_34 : Option Nat, r_34 = f_33 x2.toNatClampNeg →
  (zaI (g.2.1 3) hp_25 r_34 fun a_35 n_36 f_37 => vp_in x_13 n_36 ∧ ∀ x_38 : Int32, x_38 = f_37 x_13.toNatClampNeg →
  (zgI hp_25 (some h0) [5] 31 fun x_42 =>
  (∃ P_73 : Int32 → Int32 → Int32 → Int32 → zHp → Nat → Prop, (∀ (x_43 : Int32) (x_44 : Int32) (x_45 : Int32) (x_46 : Int32) (hp_47 : zHp) (nx_48 : Nat), P_73 x_43 x_44 x_45 x_46 hp_47 nx_48 →
  (∃ P_100 : Int32 → Int32 → zHp → Nat → Prop, (∀ (x_49 : Int32) (x_50 : Int32) (hp_51 : zHp) (nx_52 : Nat), P_100 x_49 x_50 hp_51 nx_52 →
  (Post x_50 hp_51 nx_52)) ∧
  ((x_45 = x_46 →
  (zgI hp_47 (some h0) [5] 31 fun x_56 =>
  (∃ P_103 : Int32 → Int32 → zHp → Nat → Prop, (∀ (x_57 : Int32) (x_58 : Int32) (hp_59 : zHp) (nx_60 : Nat), P_103 x_57 x_58 hp_59 nx_60 →
  (∀ x_61 : Int32, x_61 = x_58 + (1 : Int32) →
  (∃ k_62, k_62 < n_16 ∧ I_28 k_62 x_57 x_61 hp_59 nx_60))) ∧
  ((x_56 = 0 →
  (zgD hp_47 (some h0) [5] 30 fun x_66 =>
  (zgR hp_47 (some h0) [5] 72 fun r_70 =>
  (zaR (g.2.1 15) hp_47 r_70 fun a_71 n_72 f_73 => vp_in x2 n_72 ∧ ∀ r_74 : Option Nat, r_74 = f_73 x2.toNatClampNeg →
  (zaD (g.2.1 1) hp_47 r_74 fun a_75 n_76 f_77 => vp_in x_44 n_76 ∧ ∀ x_78 : UInt64, x_78 = f_77 x_44.toNatClampNeg →
  (((Op.cmpValue (FP.dcmp x_66 x_78) .l) = 0 →
  P_103 x_43 x_44 hp_47 nx_48) ∧
  (¬ (Op.cmpValue (FP.dcmp x_66 x_78) .l) = 0 →
  P_100 x_43 x_44 hp_47 nx_48))))))) ∧
  (¬ x_56 = 0 →
  P_103 x_43 x_44 hp_47 nx_48))))) ∧
  (¬ x_45 = x_46 →
  P_100 x_43 x_44 hp_47 nx_48)))) ∧
  ((x_42 = 0 →
  P_73 x_12 x_13 x_38 (0 : Int32) hp_25 nx_26) ∧
  (¬ x_42 = 0 →
  P_73 x_12 x_13 x_38 (1 : Int32) hp_25 nx_26))))))))))))))))) ∧
  ((x_8 = (-1 : Int32) →
  P_24 (1 : Int32) hp nx) ∧
  (¬ x_8 = (-1 : Int32) →
  (zgR hp (some h0) [5] 10 fun r_86 =>
  (zaI (g.2.1 0) hp r_86 fun a_87 n_88 f_89 => vp_in (((2 : Int32) * x1) + (1 : Int32)) n_88 ∧ ∀ x_90 : Int32, x_90 = f_89 (((2 : Int32) * x1) + (1 : Int32)).toNatClampNeg →
  P_24 x_90 hp nx)))))))
set_option maxHeartbeats 40000000 in
theorem met_X5_otherwise {l : Launch} {g : zG} {d : Nat} {h0 : Nat} {x1 : Int32} {x2 : Int32} {hp : zHp} {nx : Nat} {Post : Int32 → zHp → Nat → Prop} (hw : wp_X5_otherwise l g d h0 x1 x2 hp nx Post) : zMt l g yX5_otherwise cX5_otherwise 5 (some .int) (d + 1) 0 0 [.ref h0, .int x1, .int x2] hp nx (zQi g Post) := by
  refine z_start (by decide) (Nat.le_of_ble_eq_true rfl) ?_
  intro p e s m below meth c hk hr hin hH hz ls hl
  have hx := hk.1.1
  have hb := hk.1.2.1
  have hown := hk.1.2.2.2.1
  have hts := hk.1.2.2.2.2
  have hS : va_S (zAd g) s.heap s.heap [] := va_S.rf
  have hl : lv_has ls 5 [(0, va_rf (some h0)), (1, .int x1), (2, .int x2)] := hl
  unfold wp_X5_otherwise at hw
  refine zr_aload_n (r := some h0) hx hb dX5_otherwise_0 rfl (lv_at hl 0 rfl) ?_
  obtain ⟨a_1, ci_2, fs_3, r_4, er, he, hc, hv, hw⟩ := zgR_e hw
  refine zw_get hk hH er he hv (fk_X5_43 hc) dX5_otherwise_1 ?_
  refine lv_iload_n hx hb dX5_otherwise_4 rfl (lv_at hl 1 rfl) ?_
  obtain ⟨a_5, n_6, f_7, er, he, hi, hw⟩ := zaI_e hw
  have hw := hw _ rfl
  refine zw_iald hk hH er he hi dX5_otherwise_5 ?_
  generalize f_7 x1.toNatClampNeg = x_8 at hw ⊢
  refine lv_iconst (v := (-1 : Int32)) hx hb dX5_otherwise_6 (by decide) ?_
  obtain ⟨P_24, hP_24, hw⟩ := hw
  have hJ_24 : ∀ (x_9 : Int32) (hp_10 : zHp) (nx_11 : Nat) (H : Heap) (locs : List Loc) (ls : Array Slot), P_24 x_9 hp_10 nx_11 → lv_has ls 5 [(0, va_rf (some h0)), (1, .int x1), (2, .int x2)] → zHd g hp_10 H → H.size = nx_11 → va_S (zAd g) s.heap H locs → W p l e (zrm (d + 1) 0 0) s m ([.ref h0, .int x1, .int x2] : List Value).toArray below meth c H locs 0 0 (MQ below (zQi g Post) ([.ref h0, .int x1, .int x2] : List Value).toArray s 0 0 (zAd g)) (F0 m 24 ls [.int x_9]) := by
    intro x_9 hp_10 nx_11 H locs ls hw hl hH hz hS
    have hw := hP_24 x_9 hp_10 nx_11 hw
    refine lv_istore_n (i := 3) (lv' := [(3, .int x_9), (0, va_rf (some h0)), (1, .int x1), (2, .int x2)]) hx hb dX5_otherwise_24 rfl hl (by decide) (by first | rfl | simp [List.filter_cons, z_cat, z_catI, z_catJ, z_catF, z_catD]) (fun ls hl => ?_)
    refine lv_iconst (v := (0 : Int32)) hx hb dX5_otherwise_25 (by decide) ?_
    refine lv_istore (lv' := [(4, .int (0 : Int32)), (3, .int x_9), (0, va_rf (some h0)), (1, .int x1), (2, .int x2)]) hx hb dX5_otherwise_26 hl (by decide) (by first | rfl | simp [List.filter_cons, z_cat, z_catI, z_catJ, z_catF, z_catD]) (fun ls hl => ?_)
    obtain ⟨I_28, ⟨n_82, hI⟩, hB_28⟩ := hw
    have hL_28 : ∀ (n_16 : Nat) (x_12 : Int32) (x_13 : Int32) (hp_14 : zHp) (nx_15 : Nat) (H : Heap) (locs : List Loc) (ls : Array Slot), I_28 n_16 x_12 x_13 hp_14 nx_15 → lv_has ls 5 [(0, va_rf (some h0)), (1, .int x1), (2, .int x2), (3, .int x_12), (4, .int x_13)] → zHd g hp_14 H → H.size = nx_15 → va_S (zAd g) s.heap H locs → W p l e (zrm (d + 1) 0 0) s m ([.ref h0, .int x1, .int x2] : List Value).toArray below meth c H locs 0 0 (MQ below (zQi g Post) ([.ref h0, .int x1, .int x2] : List Value).toArray s 0 0 (zAd g)) (F0 m 28 ls []) := by
      intro n_16
      induction n_16 using Nat.strongRecOn with
      | _ n_16 ih_28 =>
        intro x_12 x_13 hp_14 nx_15 H locs ls hw hl hH hz hS
        have hw := hB_28 n_16 x_12 x_13 hp_14 nx_15 hw
        refine lv_iload hx hb dX5_otherwise_28 (lv_at hl 4 rfl) ?_
        refine zr_aload_n (r := some h0) hx hb dX5_otherwise_30 rfl (lv_at hl 0 rfl) ?_
        obtain ⟨a_17, ci_18, fs_19, r_20, er, he, hc, hv, hw⟩ := zgR_e hw
        refine zw_get hk hH er he hv (fk_X5_168 hc) dX5_otherwise_31 ?_
        refine lv_iload_n hx hb dX5_otherwise_34 rfl (lv_at hl 2 rfl) ?_
        obtain ⟨a_21, n_22, f_23, er, he, hi, hw⟩ := zaI_e hw
        have hw := hw _ rfl
        refine zw_iald hk hH er he hi dX5_otherwise_35 ?_
        generalize f_23 x2.toNatClampNeg = x_24 at hw ⊢
        refine lv_icmp_ge (tgt := 109) hx hb dX5_otherwise_36 (by decide) (fun hc => ?_) (fun hc => ?_)
        · have hw := hw.1 hc
          refine lv_iconst (v := (-1 : Int32)) hx hb dX5_otherwise_109 (by decide) ?_
          exact zr_iret hk hr hH hz hS hw (Nat.le_of_ble_eq_true rfl) (Nat.le_of_ble_eq_true rfl) dX5_otherwise_110
        · have hw := hw.2 hc
          refine zr_aload_n (r := some h0) hx hb dX5_otherwise_39 rfl (lv_at hl 0 rfl) ?_
          refine lv_iload_n hx hb dX5_otherwise_40 rfl (lv_at hl 1 rfl) ?_
          refine lv_iload hx hb dX5_otherwise_41 (lv_at hl 4 rfl) ?_
          refine lv_iload_n hx hb dX5_otherwise_43 rfl (lv_at hl 3 rfl) ?_
          obtain ⟨hne, hw⟩ := hw
          refine lv_idiv hx hb dX5_otherwise_44 hne ?_
          refine lv_iload hx hb dX5_otherwise_45 (lv_at hl 4 rfl) ?_
          refine lv_iload_n hx hb dX5_otherwise_47 rfl (lv_at hl 3 rfl) ?_
          obtain ⟨hne, hw⟩ := hw
          refine lv_irem hx hb dX5_otherwise_48 hne ?_
          obtain ⟨a_79, ci_80, fs_81, er, he, hc, hw⟩ := zo_e hw
          obtain rfl := List.mem_singleton.mp hc
          refine zr_callv (zw_runV (As := [.int x1, .int (x_13 / x_12), .int (x_13 - x_13 / x_12 * x_12)]) hk hH hz hS hl.1 er hw (cwV 3 hts (lw_V q3213 q3215 qs116 q162 q3216) rfl rfl rfl (by decide +kernel) (z_room (Nat.le_of_ble_eq_true rfl))) he rfl rfl rfl (Nat.le_of_ble_eq_true rfl) dX5_otherwise_49 ⟨Nat.le_of_ble_eq_true rfl, Nat.le_of_ble_eq_true rfl⟩) hS (fun hp_25 nx_26 hw H locs hH hz hS => ?_)
          refine zr_aload_n (r := some h0) hx hb dX5_otherwise_52 rfl (lv_at hl 0 rfl) ?_
          obtain ⟨a_27, ci_28, fs_29, r_30, er, he, hc, hv, hw⟩ := zgR_e hw
          refine zw_get hk hH er he hv (fk_X5_174 hc) dX5_otherwise_53 ?_
          refine lv_iload_n hx hb dX5_otherwise_56 rfl (lv_at hl 2 rfl) ?_
          obtain ⟨a_31, n_32, f_33, er, he, hi, hw⟩ := zaR_e hw
          have hw := hw _ rfl
          refine zw_aald hk hH 16 er he rfl rfl hi dX5_otherwise_57 ?_
          generalize f_33 x2.toNatClampNeg = r_34 at hw ⊢
          refine lv_iload hx hb dX5_otherwise_58 (lv_at hl 4 rfl) ?_
          obtain ⟨a_35, n_36, f_37, er, he, hi, hw⟩ := zaI_e hw
          have hw := hw _ rfl
          refine zw_zald hk hH er he hi dX5_otherwise_60 ?_
          generalize f_37 x_13.toNatClampNeg = x_38 at hw ⊢
          refine zr_aload_n (r := some h0) hx hb dX5_otherwise_61 rfl (lv_at hl 0 rfl) ?_
          obtain ⟨a_39, ci_40, fs_41, x_42, er, he, hc, hv, hw⟩ := zgI_e hw
          refine zw_get hk hH er he hv (fk_X5_286 hc) dX5_otherwise_62 ?_
          obtain ⟨P_73, hP_73, hw⟩ := hw
          have hJ_73 : ∀ (x_43 : Int32) (x_44 : Int32) (x_45 : Int32) (x_46 : Int32) (hp_47 : zHp) (nx_48 : Nat) (H : Heap) (locs : List Loc) (ls : Array Slot), P_73 x_43 x_44 x_45 x_46 hp_47 nx_48 → lv_has ls 5 [(0, va_rf (some h0)), (1, .int x1), (2, .int x2), (3, .int x_43), (4, .int x_44)] → zHd g hp_47 H → H.size = nx_48 → va_S (zAd g) s.heap H locs → W p l e (zrm (d + 1) 0 0) s m ([.ref h0, .int x1, .int x2] : List Value).toArray below meth c H locs 0 0 (MQ below (zQi g Post) ([.ref h0, .int x1, .int x2] : List Value).toArray s 0 0 (zAd g)) (F0 m 73 ls [.int x_46, .int x_45]) := by
            intro x_43 x_44 x_45 x_46 hp_47 nx_48 H locs ls hw hl hH hz hS
            have hw := hP_73 x_43 x_44 x_45 x_46 hp_47 nx_48 hw
            obtain ⟨P_100, hP_100, hw⟩ := hw
            have hJ_100 : ∀ (x_49 : Int32) (x_50 : Int32) (hp_51 : zHp) (nx_52 : Nat) (H : Heap) (locs : List Loc) (ls : Array Slot), P_100 x_49 x_50 hp_51 nx_52 → lv_has ls 5 [(0, va_rf (some h0)), (1, .int x1), (2, .int x2), (3, .int x_49), (4, .int x_50)] → zHd g hp_51 H → H.size = nx_52 → va_S (zAd g) s.heap H locs → W p l e (zrm (d + 1) 0 0) s m ([.ref h0, .int x1, .int x2] : List Value).toArray below meth c H locs 0 0 (MQ below (zQi g Post) ([.ref h0, .int x1, .int x2] : List Value).toArray s 0 0 (zAd g)) (F0 m 100 ls []) := by
              intro x_49 x_50 hp_51 nx_52 H locs ls hw hl hH hz hS
              have hw := hP_100 x_49 x_50 hp_51 nx_52 hw
              refine lv_iload hx hb dX5_otherwise_100 (lv_at hl 4 rfl) ?_
              exact zr_iret hk hr hH hz hS hw (Nat.le_of_ble_eq_true rfl) (Nat.le_of_ble_eq_true rfl) dX5_otherwise_102
            refine lv_icmp_ne (tgt := 100) hx hb dX5_otherwise_73 (by decide) (fun hc => ?_) (fun hc => ?_)
            · have hw := hw.2 hc
              exact hJ_100 x_43 x_44 hp_47 nx_48 _ _ _ hw hl hH hz hS
            · have hw := hw.1 hc
              refine zr_aload_n (r := some h0) hx hb dX5_otherwise_76 rfl (lv_at hl 0 rfl) ?_
              obtain ⟨a_53, ci_54, fs_55, x_56, er, he, hc, hv, hw⟩ := zgI_e hw
              refine zw_get hk hH er he hv (fk_X5_286 hc) dX5_otherwise_77 ?_
              obtain ⟨P_103, hP_103, hw⟩ := hw
              have hJ_103 : ∀ (x_57 : Int32) (x_58 : Int32) (hp_59 : zHp) (nx_60 : Nat) (H : Heap) (locs : List Loc) (ls : Array Slot), P_103 x_57 x_58 hp_59 nx_60 → lv_has ls 5 [(0, va_rf (some h0)), (1, .int x1), (2, .int x2), (3, .int x_57), (4, .int x_58)] → zHd g hp_59 H → H.size = nx_60 → va_S (zAd g) s.heap H locs → W p l e (zrm (d + 1) 0 0) s m ([.ref h0, .int x1, .int x2] : List Value).toArray below meth c H locs 0 0 (MQ below (zQi g Post) ([.ref h0, .int x1, .int x2] : List Value).toArray s 0 0 (zAd g)) (F0 m 103 ls []) := by
                intro x_57 x_58 hp_59 nx_60 H locs ls hw hl hH hz hS
                have hw := hP_103 x_57 x_58 hp_59 nx_60 hw
                obtain ⟨x_61, ex_61⟩ : ∃ y : Int32, y = x_58 + (1 : Int32) := ⟨_, rfl⟩
                have hw := hw x_61 ex_61
                refine lv_iinc (v := x_61) (lv' := [(4, .int x_61), (0, va_rf (some h0)), (1, .int x1), (2, .int x2), (3, .int x_57)]) hx hb dX5_otherwise_103 hl (k := 4) rfl (by rw [ex_61]; rfl) (by decide) (by first | rfl | simp [List.filter_cons, z_cat, z_catI, z_catJ, z_catF, z_catD]) (fun ls hl => ?_)
                refine lv_goto (tgt := 28) hx hb dX5_otherwise_106 (by decide) ?_
                obtain ⟨k_62, hlt, hw⟩ := hw
                exact ih_28 k_62 hlt x_57 x_61 hp_59 nx_60 _ _ _ hw (lv_sub hl [1, 2, 3, 4, 0] rfl) hH hz hS
              refine lv_if_ne (tgt := 103) hx hb dX5_otherwise_80 (by decide) (fun hc => ?_) (fun hc => ?_)
              · have hw := hw.2 hc
                exact hJ_103 x_43 x_44 hp_47 nx_48 _ _ _ hw hl hH hz hS
              · have hw := hw.1 hc
                refine zr_aload_n (r := some h0) hx hb dX5_otherwise_83 rfl (lv_at hl 0 rfl) ?_
                obtain ⟨a_63, ci_64, fs_65, x_66, er, he, hc, hv, hw⟩ := zgD_e hw
                refine zw_get hk hH er he hv (fk_X5_282 hc) dX5_otherwise_84 ?_
                refine zr_aload_n (r := some h0) hx hb dX5_otherwise_87 rfl (lv_at hl 0 rfl) ?_
                obtain ⟨a_67, ci_68, fs_69, r_70, er, he, hc, hv, hw⟩ := zgR_e hw
                refine zw_get hk hH er he hv (fk_X5_171 hc) dX5_otherwise_88 ?_
                refine lv_iload_n hx hb dX5_otherwise_91 rfl (lv_at hl 2 rfl) ?_
                obtain ⟨a_71, n_72, f_73, er, he, hi, hw⟩ := zaR_e hw
                have hw := hw _ rfl
                refine zw_aald hk hH 15 er he rfl rfl hi dX5_otherwise_92 ?_
                generalize f_73 x2.toNatClampNeg = r_74 at hw ⊢
                refine lv_iload hx hb dX5_otherwise_93 (lv_at hl 4 rfl) ?_
                obtain ⟨a_75, n_76, f_77, er, he, hi, hw⟩ := zaD_e hw
                have hw := hw _ rfl
                refine zw_dald hk hH er he hi dX5_otherwise_95 ?_
                generalize f_77 x_44.toNatClampNeg = x_78 at hw ⊢
                refine lv_dcmp hx hb dX5_otherwise_96 ?_
                refine lv_if_eq (tgt := 103) hx hb dX5_otherwise_97 (by decide) (fun hc => ?_) (fun hc => ?_)
                · have hw := hw.1 hc
                  exact hJ_103 x_43 x_44 hp_47 nx_48 _ _ _ hw hl hH hz hS
                · have hw := hw.2 hc
                  exact hJ_100 x_43 x_44 hp_47 nx_48 _ _ _ hw hl hH hz hS
          refine lv_if_eq (tgt := 72) hx hb dX5_otherwise_65 (by decide) (fun hc => ?_) (fun hc => ?_)
          · have hw := hw.1 hc
            refine lv_iconst (v := (0 : Int32)) hx hb dX5_otherwise_72 (by decide) ?_
            exact hJ_73 x_12 x_13 x_38 (0 : Int32) hp_25 nx_26 _ _ _ hw hl hH hz hS
          · have hw := hw.2 hc
            refine lv_iconst (v := (1 : Int32)) hx hb dX5_otherwise_68 (by decide) ?_
            refine lv_goto (tgt := 73) hx hb dX5_otherwise_69 (by decide) ?_
            exact hJ_73 x_12 x_13 x_38 (1 : Int32) hp_25 nx_26 _ _ _ hw hl hH hz hS
    exact hL_28 n_82 x_9 (0 : Int32) hp_10 nx_11 _ _ _ hI (lv_sub hl [2, 3, 4, 1, 0] rfl) hH hz hS
  refine lv_icmp_ne (tgt := 14) hx hb dX5_otherwise_7 (by decide) (fun hc => ?_) (fun hc => ?_)
  · have hw := hw.2 hc
    refine zr_aload_n (r := some h0) hx hb dX5_otherwise_14 rfl (lv_at hl 0 rfl) ?_
    obtain ⟨a_83, ci_84, fs_85, r_86, er, he, hc, hv, hw⟩ := zgR_e hw
    refine zw_get hk hH er he hv (fk_X5_46 hc) dX5_otherwise_15 ?_
    refine lv_iconst (v := (2 : Int32)) hx hb dX5_otherwise_18 (by decide) ?_
    refine lv_iload_n hx hb dX5_otherwise_19 rfl (lv_at hl 1 rfl) ?_
    refine lv_imul hx hb dX5_otherwise_20 ?_
    refine lv_iconst (v := (1 : Int32)) hx hb dX5_otherwise_21 (by decide) ?_
    refine lv_iadd hx hb dX5_otherwise_22 ?_
    obtain ⟨a_87, n_88, f_89, er, he, hi, hw⟩ := zaI_e hw
    have hw := hw _ rfl
    refine zw_iald hk hH er he hi dX5_otherwise_23 ?_
    generalize f_89 (((2 : Int32) * x1) + (1 : Int32)).toNatClampNeg = x_90 at hw ⊢
    exact hJ_24 x_90 hp nx _ _ _ hw hl hH hz hS
  · have hw := hw.1 hc
    refine lv_iconst (v := (1 : Int32)) hx hb dX5_otherwise_10 (by decide) ?_
    refine lv_goto (tgt := 24) hx hb dX5_otherwise_11 (by decide) ?_
    exact hJ_24 (1 : Int32) hp nx _ _ _ hw hl hH hz hS
def wp_X5_kindsBy (l : Launch) (g : zG) (d : Nat) (h0 : Nat) (x1 : Int32) (x2 : Int32) (x3 : Int32) (hp : zHp) (nx : Nat) (Post : Int32 → zHp → Nat → Prop) : Prop :=
  (zgR hp (some h0) [5] 0 fun r_4 =>
  (zaI (g.2.1 0) hp r_4 fun a_5 n_6 f_7 => vp_in x3 n_6 ∧ ∀ x_8 : Int32, x_8 = f_7 x3.toNatClampNeg →
  (∃ I_14 : Nat → Int32 → Int32 → Int32 → zHp → Nat → Prop, (∃ n_45, I_14 n_45 x_8 (0 : Int32) (0 : Int32) hp nx) ∧ ∀ (n_14 : Nat) (x_9 : Int32) (x_10 : Int32) (x_11 : Int32) (hp_12 : zHp) (nx_13 : Nat), I_14 n_14 x_9 x_10 x_11 hp_12 nx_13 →
  (((6 : Int32) ≤ x_11 →
  (zgR hp_12 (some h0) [5] 0 fun r_18 =>
  (zaI (g.2.1 0) hp_12 r_18 fun a_19 n_20 f_21 => vp_in x3 n_20 ∧ zB g ≤ a_19 ∧ ∀ hp_22 : zHp, hp_22 = va_up hp_12 a_19 (some (.inl (g.2.1 0, n_20, .inl (va_up f_21 x3.toNatClampNeg x_9)))) →
  (Post x_10 hp_22 nx_13)))) ∧
  (¬ (6 : Int32) ≤ x_11 →
  (zgR hp_12 (some h0) [5] 0 fun r_26 =>
  (zaI (g.2.1 0) hp_12 r_26 fun a_27 n_28 f_29 => vp_in x3 n_28 ∧ zB g ≤ a_27 ∧ ∀ hp_30 : zHp, hp_30 = va_up hp_12 a_27 (some (.inl (g.2.1 0, n_28, .inl (va_up f_29 x3.toNatClampNeg x_11)))) →
  (zo hp_30 (some h0) [5] fun a_42 ci_43 fs_44 => zMt l g yX5_otherwise cX5_otherwise 5 (some .int) d 0 0 (.ref a_42 :: [.int x1, .int x2]) hp_30 nx_13 (zQi g fun x_33 hp_31 nx_32 =>
  (∃ P_48 : Int32 → Int32 → Int32 → zHp → Nat → Prop, (∀ (x_34 : Int32) (x_35 : Int32) (x_36 : Int32) (hp_37 : zHp) (nx_38 : Nat), P_48 x_34 x_35 x_36 hp_37 nx_38 →
  (∀ x_39 : Int32, x_39 = x_36 + (1 : Int32) →
  (∃ k_40, k_40 < n_14 ∧ I_14 k_40 x_34 x_35 x_39 hp_37 nx_38))) ∧
  ((x_33 = (-1 : Int32) →
  (∀ x_41 : Int32, x_41 = x_10 ||| ((1 : Int32) <<< (x_11 &&& 31)) →
  P_48 x_9 x_41 x_11 hp_31 nx_32)) ∧
  (¬ x_33 = (-1 : Int32) →
  P_48 x_9 x_10 x_11 hp_31 nx_32))))))))))))
set_option maxHeartbeats 40000000 in
theorem met_X5_kindsBy {l : Launch} {g : zG} {d : Nat} {h0 : Nat} {x1 : Int32} {x2 : Int32} {x3 : Int32} {hp : zHp} {nx : Nat} {Post : Int32 → zHp → Nat → Prop} (hw : wp_X5_kindsBy l g d h0 x1 x2 x3 hp nx Post) : zMt l g yX5_kindsBy cX5_kindsBy 7 (some .int) (d + 1) 0 0 [.ref h0, .int x1, .int x2, .int x3] hp nx (zQi g Post) := by
  refine z_start (by decide) (Nat.le_of_ble_eq_true rfl) ?_
  intro p e s m below meth c hk hr hin hH hz ls hl
  have hx := hk.1.1
  have hb := hk.1.2.1
  have hown := hk.1.2.2.2.1
  have hts := hk.1.2.2.2.2
  have hS : va_S (zAd g) s.heap s.heap [] := va_S.rf
  have hl : lv_has ls 7 [(0, va_rf (some h0)), (1, .int x1), (2, .int x2), (3, .int x3)] := hl
  unfold wp_X5_kindsBy at hw
  refine zr_aload_n (r := some h0) hx hb dX5_kindsBy_0 rfl (lv_at hl 0 rfl) ?_
  obtain ⟨a_1, ci_2, fs_3, r_4, er, he, hc, hv, hw⟩ := zgR_e hw
  refine zw_get hk hH er he hv (fk_X5_9 hc) dX5_kindsBy_1 ?_
  refine lv_iload_n hx hb dX5_kindsBy_4 rfl (lv_at hl 3 rfl) ?_
  obtain ⟨a_5, n_6, f_7, er, he, hi, hw⟩ := zaI_e hw
  have hw := hw _ rfl
  refine zw_iald hk hH er he hi dX5_kindsBy_5 ?_
  generalize f_7 x3.toNatClampNeg = x_8 at hw ⊢
  refine lv_istore (lv' := [(4, .int x_8), (0, va_rf (some h0)), (1, .int x1), (2, .int x2), (3, .int x3)]) hx hb dX5_kindsBy_6 hl (by decide) (by first | rfl | simp [List.filter_cons, z_cat, z_catI, z_catJ, z_catF, z_catD]) (fun ls hl => ?_)
  refine lv_iconst (v := (0 : Int32)) hx hb dX5_kindsBy_8 (by decide) ?_
  refine lv_istore (lv' := [(5, .int (0 : Int32)), (4, .int x_8), (0, va_rf (some h0)), (1, .int x1), (2, .int x2), (3, .int x3)]) hx hb dX5_kindsBy_9 hl (by decide) (by first | rfl | simp [List.filter_cons, z_cat, z_catI, z_catJ, z_catF, z_catD]) (fun ls hl => ?_)
  refine lv_iconst (v := (0 : Int32)) hx hb dX5_kindsBy_11 (by decide) ?_
  refine lv_istore (lv' := [(6, .int (0 : Int32)), (5, .int (0 : Int32)), (4, .int x_8), (0, va_rf (some h0)), (1, .int x1), (2, .int x2), (3, .int x3)]) hx hb dX5_kindsBy_12 hl (by decide) (by first | rfl | simp [List.filter_cons, z_cat, z_catI, z_catJ, z_catF, z_catD]) (fun ls hl => ?_)
  obtain ⟨I_14, ⟨n_45, hI⟩, hB_14⟩ := hw
  have hL_14 : ∀ (n_14 : Nat) (x_9 : Int32) (x_10 : Int32) (x_11 : Int32) (hp_12 : zHp) (nx_13 : Nat) (H : Heap) (locs : List Loc) (ls : Array Slot), I_14 n_14 x_9 x_10 x_11 hp_12 nx_13 → lv_has ls 7 [(0, va_rf (some h0)), (1, .int x1), (2, .int x2), (3, .int x3), (4, .int x_9), (5, .int x_10), (6, .int x_11)] → zHd g hp_12 H → H.size = nx_13 → va_S (zAd g) s.heap H locs → W p l e (zrm (d + 1) 0 0) s m ([.ref h0, .int x1, .int x2, .int x3] : List Value).toArray below meth c H locs 0 0 (MQ below (zQi g Post) ([.ref h0, .int x1, .int x2, .int x3] : List Value).toArray s 0 0 (zAd g)) (F0 m 14 ls []) := by
    intro n_14
    induction n_14 using Nat.strongRecOn with
    | _ n_14 ih_14 =>
      intro x_9 x_10 x_11 hp_12 nx_13 H locs ls hw hl hH hz hS
      have hw := hB_14 n_14 x_9 x_10 x_11 hp_12 nx_13 hw
      refine lv_iload hx hb dX5_kindsBy_14 (lv_at hl 6 rfl) ?_
      refine lv_bipush (v := (6 : Int32)) hx hb dX5_kindsBy_16 (by decide) ?_
      refine lv_icmp_ge (tgt := 54) hx hb dX5_kindsBy_18 (by decide) (fun hc => ?_) (fun hc => ?_)
      · have hw := hw.1 hc
        refine zr_aload_n (r := some h0) hx hb dX5_kindsBy_54 rfl (lv_at hl 0 rfl) ?_
        obtain ⟨a_15, ci_16, fs_17, r_18, er, he, hc, hv, hw⟩ := zgR_e hw
        refine zw_get hk hH er he hv (fk_X5_9 hc) dX5_kindsBy_55 ?_
        refine lv_iload_n hx hb dX5_kindsBy_58 rfl (lv_at hl 3 rfl) ?_
        refine lv_iload hx hb dX5_kindsBy_59 (lv_at hl 4 rfl) ?_
        obtain ⟨a_19, n_20, f_21, er, he, hi, hA, hw⟩ := zaI_e hw
        obtain ⟨hp_22, eh⟩ : ∃ y : zHp, y = va_up hp_12 a_19 (some (.inl (g.2.1 0, n_20, .inl (va_up f_21 x3.toNatClampNeg x_9)))) := ⟨_, rfl⟩
        have hw := hw hp_22 eh
        refine zw_iast hk hH hz hS er he hi hA eh dX5_kindsBy_61 (fun H locs hH hz hS => ?_)
        refine lv_iload hx hb dX5_kindsBy_62 (lv_at hl 5 rfl) ?_
        exact zr_iret hk hr hH hz hS hw (Nat.le_of_ble_eq_true rfl) (Nat.le_of_ble_eq_true rfl) dX5_kindsBy_64
      · have hw := hw.2 hc
        refine zr_aload_n (r := some h0) hx hb dX5_kindsBy_21 rfl (lv_at hl 0 rfl) ?_
        obtain ⟨a_23, ci_24, fs_25, r_26, er, he, hc, hv, hw⟩ := zgR_e hw
        refine zw_get hk hH er he hv (fk_X5_9 hc) dX5_kindsBy_22 ?_
        refine lv_iload_n hx hb dX5_kindsBy_25 rfl (lv_at hl 3 rfl) ?_
        refine lv_iload hx hb dX5_kindsBy_26 (lv_at hl 6 rfl) ?_
        obtain ⟨a_27, n_28, f_29, er, he, hi, hA, hw⟩ := zaI_e hw
        obtain ⟨hp_30, eh⟩ : ∃ y : zHp, y = va_up hp_12 a_27 (some (.inl (g.2.1 0, n_28, .inl (va_up f_29 x3.toNatClampNeg x_11)))) := ⟨_, rfl⟩
        have hw := hw hp_30 eh
        refine zw_iast hk hH hz hS er he hi hA eh dX5_kindsBy_28 (fun H locs hH hz hS => ?_)
        refine zr_aload_n (r := some h0) hx hb dX5_kindsBy_29 rfl (lv_at hl 0 rfl) ?_
        refine lv_iload_n hx hb dX5_kindsBy_30 rfl (lv_at hl 1 rfl) ?_
        refine lv_iload_n hx hb dX5_kindsBy_31 rfl (lv_at hl 2 rfl) ?_
        obtain ⟨a_42, ci_43, fs_44, er, he, hc, hw⟩ := zo_e hw
        obtain rfl := List.mem_singleton.mp hc
        refine zr_calli (zw_runV (As := [.int x1, .int x2]) hk hH hz hS hl.1 er hw (cwV 2 hts (lw_V q3298 q3300 qs125 q162 q3301) rfl rfl rfl (by decide +kernel) (z_room (Nat.le_of_ble_eq_true rfl))) he rfl rfl rfl (Nat.le_of_ble_eq_true rfl) dX5_kindsBy_32 ⟨Nat.le_of_ble_eq_true rfl, Nat.le_of_ble_eq_true rfl⟩) hS (fun x_33 hp_31 nx_32 hw H locs hH hz hS => ?_)
        refine lv_iconst (v := (-1 : Int32)) hx hb dX5_kindsBy_35 (by decide) ?_
        obtain ⟨P_48, hP_48, hw⟩ := hw
        have hJ_48 : ∀ (x_34 : Int32) (x_35 : Int32) (x_36 : Int32) (hp_37 : zHp) (nx_38 : Nat) (H : Heap) (locs : List Loc) (ls : Array Slot), P_48 x_34 x_35 x_36 hp_37 nx_38 → lv_has ls 7 [(0, va_rf (some h0)), (1, .int x1), (2, .int x2), (3, .int x3), (4, .int x_34), (5, .int x_35), (6, .int x_36)] → zHd g hp_37 H → H.size = nx_38 → va_S (zAd g) s.heap H locs → W p l e (zrm (d + 1) 0 0) s m ([.ref h0, .int x1, .int x2, .int x3] : List Value).toArray below meth c H locs 0 0 (MQ below (zQi g Post) ([.ref h0, .int x1, .int x2, .int x3] : List Value).toArray s 0 0 (zAd g)) (F0 m 48 ls []) := by
          intro x_34 x_35 x_36 hp_37 nx_38 H locs ls hw hl hH hz hS
          have hw := hP_48 x_34 x_35 x_36 hp_37 nx_38 hw
          obtain ⟨x_39, ex_39⟩ : ∃ y : Int32, y = x_36 + (1 : Int32) := ⟨_, rfl⟩
          have hw := hw x_39 ex_39
          refine lv_iinc (v := x_39) (lv' := [(6, .int x_39), (0, va_rf (some h0)), (1, .int x1), (2, .int x2), (3, .int x3), (4, .int x_34), (5, .int x_35)]) hx hb dX5_kindsBy_48 hl (k := 6) rfl (by rw [ex_39]; rfl) (by decide) (by first | rfl | simp [List.filter_cons, z_cat, z_catI, z_catJ, z_catF, z_catD]) (fun ls hl => ?_)
          refine lv_goto (tgt := 14) hx hb dX5_kindsBy_51 (by decide) ?_
          obtain ⟨k_40, hlt, hw⟩ := hw
          exact ih_14 k_40 hlt x_34 x_35 x_39 hp_37 nx_38 _ _ _ hw (lv_sub hl [1, 2, 3, 4, 5, 6, 0] rfl) hH hz hS
        refine lv_icmp_ne (tgt := 48) hx hb dX5_kindsBy_36 (by decide) (fun hc => ?_) (fun hc => ?_)
        · have hw := hw.2 hc
          exact hJ_48 x_9 x_10 x_11 hp_31 nx_32 _ _ _ hw hl hH hz hS
        · have hw := hw.1 hc
          refine lv_iload hx hb dX5_kindsBy_39 (lv_at hl 5 rfl) ?_
          refine lv_iconst (v := (1 : Int32)) hx hb dX5_kindsBy_41 (by decide) ?_
          refine lv_iload hx hb dX5_kindsBy_42 (lv_at hl 6 rfl) ?_
          refine lv_ishl hx hb dX5_kindsBy_44 ?_
          refine lv_ior hx hb dX5_kindsBy_45 ?_
          refine lv_topi (fun x_41 ex_41 => ?_)
          have hw := hw x_41 ex_41
          refine lv_istore (lv' := [(5, .int x_41), (0, va_rf (some h0)), (1, .int x1), (2, .int x2), (3, .int x3), (4, .int x_9), (6, .int x_11)]) hx hb dX5_kindsBy_46 hl (by decide) (by first | rfl | simp [List.filter_cons, z_cat, z_catI, z_catJ, z_catF, z_catD]) (fun ls hl => ?_)
          exact hJ_48 x_9 x_41 x_11 hp_31 nx_32 _ _ _ hw (lv_sub hl [1, 2, 3, 4, 5, 0, 6] rfl) hH hz hS
  exact hL_14 n_45 x_8 (0 : Int32) (0 : Int32) hp nx _ _ _ hI (lv_sub hl [3, 4, 5, 6, 2, 1, 0] rfl) hH hz hS
def wp_X5_numbersBy (l : Launch) (g : zG) (d : Nat) (h0 : Nat) (x1 : Int32) (x2 : Int32) (x3 : Int32) (x4 : Int32) (hp : zHp) (nx : Nat) (Post : Int32 → zHp → Nat → Prop) : Prop :=
  (zgR hp (some h0) [5] 2 fun r_4 =>
  (zaD (g.2.1 1) hp r_4 fun a_5 n_6 f_7 => vp_in x3 n_6 ∧ ∀ x_8 : UInt64, x_8 = f_7 x3.toNatClampNeg →
  (zgR hp (some h0) [5] 1 fun r_12 =>
  (zaI (g.2.1 3) hp r_12 fun a_13 n_14 f_15 => vp_in x3 n_14 ∧ ∀ x_16 : Int32, x_16 = f_15 x3.toNatClampNeg →
  (zgR hp (some h0) [5] 1 fun r_20 =>
  (zaI (g.2.1 3) hp r_20 fun a_21 n_22 f_23 => vp_in x3 n_22 ∧ zB g ≤ a_21 ∧ ∀ hp_24 : zHp, hp_24 = va_up hp a_21 (some (.inl (g.2.1 3, n_22, .inl (va_up f_23 x3.toNatClampNeg (vp_nar .boolean (1 : Int32)))))) →
  (∃ I_33 : Nat → UInt64 → Int32 → Int32 → Int32 → Int32 → zHp → Nat → Prop, (∃ n_89, I_33 n_89 x_8 x_16 (0 : Int32) (-1 : Int32) (-20 : Int32) hp_24 nx) ∧ ∀ (n_32 : Nat) (x_25 : UInt64) (x_26 : Int32) (x_27 : Int32) (x_28 : Int32) (x_29 : Int32) (hp_30 : zHp) (nx_31 : Nat), I_33 n_32 x_25 x_26 x_27 x_28 x_29 hp_30 nx_31 →
  (((20 : Int32) < x_29 →
  (zgR hp_30 (some h0) [5] 2 fun r_36 =>
  (zaD (g.2.1 1) hp_30 r_36 fun a_37 n_38 f_39 => vp_in x3 n_38 ∧ zB g ≤ a_37 ∧ ∀ hp_40 : zHp, hp_40 = va_up hp_30 a_37 (some (.inl (g.2.1 1, n_38, .inr (.inr (.inr (.inl (va_up f_39 x3.toNatClampNeg x_25))))))) →
  (zgR hp_40 (some h0) [5] 1 fun r_44 =>
  (zaI (g.2.1 3) hp_40 r_44 fun a_45 n_46 f_47 => vp_in x3 n_46 ∧ zB g ≤ a_45 ∧ ∀ hp_48 : zHp, hp_48 = va_up hp_40 a_45 (some (.inl (g.2.1 3, n_46, .inl (va_up f_47 x3.toNatClampNeg (vp_nar .boolean x_26))))) →
  (∃ P_117 : UInt64 → Int32 → Int32 → Int32 → Int32 → Int32 → zHp → Nat → Prop, (∀ (x_49 : UInt64) (x_50 : Int32) (x_51 : Int32) (x_52 : Int32) (x_53 : Int32) (x_54 : Int32) (hp_55 : zHp) (nx_56 : Nat), P_117 x_49 x_50 x_51 x_52 x_53 x_54 hp_55 nx_56 →
  (Post x_54 hp_55 nx_56)) ∧
  ((x4 = 0 →
  P_117 x_25 x_26 x_27 x_28 x_29 x_27 hp_48 nx_31) ∧
  (¬ x4 = 0 →
  P_117 x_25 x_26 x_27 x_28 x_29 x_28 hp_48 nx_31)))))))) ∧
  (¬ (20 : Int32) < x_29 →
  (zgR hp_30 (some h0) [5] 2 fun r_60 =>
  (zaD (g.2.1 1) hp_30 r_60 fun a_61 n_62 f_63 => vp_in x3 n_62 ∧ zB g ≤ a_61 ∧ ∀ hp_64 : zHp, hp_64 = va_up hp_30 a_61 (some (.inl (g.2.1 1, n_62, .inr (.inr (.inr (.inl (va_up f_63 x3.toNatClampNeg (FP.i2d x_29)))))))) →
  (zo hp_64 (some h0) [5] fun a_86 ci_87 fs_88 => zMt l g yX5_otherwise cX5_otherwise 5 (some .int) d 0 0 (.ref a_86 :: [.int x1, .int x2]) hp_64 nx_31 (zQi g fun x_67 hp_65 nx_66 =>
  (∃ P_83 : UInt64 → Int32 → Int32 → Int32 → Int32 → zHp → Nat → Prop, (∀ (x_68 : UInt64) (x_69 : Int32) (x_70 : Int32) (x_71 : Int32) (x_72 : Int32) (hp_73 : zHp) (nx_74 : Nat), P_83 x_68 x_69 x_70 x_71 x_72 hp_73 nx_74 →
  (∀ x_75 : Int32, x_75 = x_72 + (1 : Int32) →
  (∃ k_76, k_76 < n_32 ∧ I_33 k_76 x_68 x_69 x_70 x_71 x_75 hp_73 nx_74))) ∧
  ((x_67 = (-1 : Int32) →
  (∃ P_78 : UInt64 → Int32 → Int32 → Int32 → Int32 → Int32 → zHp → Nat → Prop, (∀ (x_77 : UInt64) (x_78 : Int32) (x_79 : Int32) (x_80 : Int32) (x_81 : Int32) (x_82 : Int32) (hp_83 : zHp) (nx_84 : Nat), P_78 x_77 x_78 x_79 x_80 x_81 x_82 hp_83 nx_84 →
  (∀ x_85 : Int32, x_85 = x_79 + (1 : Int32) →
  P_83 x_77 x_78 x_85 x_82 x_81 hp_83 nx_84)) ∧
  ((x_27 = 0 →
  P_78 x_25 x_26 x_27 x_28 x_29 ((1000 : Int32) + x_29) hp_65 nx_66) ∧
  (¬ x_27 = 0 →
  P_78 x_25 x_26 x_27 x_28 x_29 x_28 hp_65 nx_66)))) ∧
  (¬ x_67 = (-1 : Int32) →
  P_83 x_25 x_26 x_27 x_28 x_29 hp_65 nx_66))))))))))))))))
set_option maxHeartbeats 40000000 in
theorem met_X5_numbersBy {l : Launch} {g : zG} {d : Nat} {h0 : Nat} {x1 : Int32} {x2 : Int32} {x3 : Int32} {x4 : Int32} {hp : zHp} {nx : Nat} {Post : Int32 → zHp → Nat → Prop} (hw : wp_X5_numbersBy l g d h0 x1 x2 x3 x4 hp nx Post) : zMt l g yX5_numbersBy cX5_numbersBy 11 (some .int) (d + 1) 0 0 [.ref h0, .int x1, .int x2, .int x3, .int x4] hp nx (zQi g Post) := by
  refine z_start (by decide) (Nat.le_of_ble_eq_true rfl) ?_
  intro p e s m below meth c hk hr hin hH hz ls hl
  have hx := hk.1.1
  have hb := hk.1.2.1
  have hown := hk.1.2.2.2.1
  have hts := hk.1.2.2.2.2
  have hS : va_S (zAd g) s.heap s.heap [] := va_S.rf
  have hl : lv_has ls 11 [(0, va_rf (some h0)), (1, .int x1), (2, .int x2), (3, .int x3), (4, .int x4)] := hl
  unfold wp_X5_numbersBy at hw
  refine zr_aload_n (r := some h0) hx hb dX5_numbersBy_0 rfl (lv_at hl 0 rfl) ?_
  obtain ⟨a_1, ci_2, fs_3, r_4, er, he, hc, hv, hw⟩ := zgR_e hw
  refine zw_get hk hH er he hv (fk_X5_17 hc) dX5_numbersBy_1 ?_
  refine lv_iload_n hx hb dX5_numbersBy_4 rfl (lv_at hl 3 rfl) ?_
  obtain ⟨a_5, n_6, f_7, er, he, hi, hw⟩ := zaD_e hw
  have hw := hw _ rfl
  refine zw_dald hk hH er he hi dX5_numbersBy_5 ?_
  generalize f_7 x3.toNatClampNeg = x_8 at hw ⊢
  refine lv_dstore (lv' := [(5, .double x_8), (0, va_rf (some h0)), (1, .int x1), (2, .int x2), (3, .int x3), (4, .int x4)]) hx hb dX5_numbersBy_6 hl (by decide) (by first | rfl | simp [List.filter_cons, z_cat, z_catI, z_catJ, z_catF, z_catD]) (fun ls hl => ?_)
  refine zr_aload_n (r := some h0) hx hb dX5_numbersBy_8 rfl (lv_at hl 1 rfl) ?_
  obtain ⟨a_9, ci_10, fs_11, r_12, er, he, hc, hv, hw⟩ := zgR_e hw
  refine zw_get hk hH er he hv (fk_X5_13 hc) dX5_numbersBy_9 ?_
  refine lv_iload_n hx hb dX5_numbersBy_12 rfl (lv_at hl 4 rfl) ?_
  obtain ⟨a_13, n_14, f_15, er, he, hi, hw⟩ := zaI_e hw
  have hw := hw _ rfl
  refine zw_zald hk hH er he hi dX5_numbersBy_13 ?_
  generalize f_15 x3.toNatClampNeg = x_16 at hw ⊢
  refine lv_istore (lv' := [(7, .int x_16), (5, .double x_8), (0, va_rf (some h0)), (1, .int x1), (2, .int x2), (3, .int x3), (4, .int x4)]) hx hb dX5_numbersBy_14 hl (by decide) (by first | rfl | simp [List.filter_cons, z_cat, z_catI, z_catJ, z_catF, z_catD]) (fun ls hl => ?_)
  refine zr_aload_n (r := some h0) hx hb dX5_numbersBy_16 rfl (lv_at hl 2 rfl) ?_
  obtain ⟨a_17, ci_18, fs_19, r_20, er, he, hc, hv, hw⟩ := zgR_e hw
  refine zw_get hk hH er he hv (fk_X5_13 hc) dX5_numbersBy_17 ?_
  refine lv_iload_n hx hb dX5_numbersBy_20 rfl (lv_at hl 5 rfl) ?_
  refine lv_iconst (v := (1 : Int32)) hx hb dX5_numbersBy_21 (by decide) ?_
  obtain ⟨a_21, n_22, f_23, er, he, hi, hA, hw⟩ := zaI_e hw
  obtain ⟨hp_24, eh⟩ : ∃ y : zHp, y = va_up hp a_21 (some (.inl (g.2.1 3, n_22, .inl (va_up f_23 x3.toNatClampNeg (vp_nar .boolean (1 : Int32)))))) := ⟨_, rfl⟩
  have hw := hw hp_24 eh
  refine zw_zast hk hH hz hS er he hi hA eh dX5_numbersBy_22 (fun H locs hH hz hS => ?_)
  refine lv_iconst (v := (0 : Int32)) hx hb dX5_numbersBy_23 (by decide) ?_
  refine lv_istore (lv' := [(8, .int (0 : Int32)), (7, .int x_16), (5, .double x_8), (0, va_rf (some h0)), (1, .int x1), (2, .int x2), (3, .int x3), (4, .int x4)]) hx hb dX5_numbersBy_24 hl (by decide) (by first | rfl | simp [List.filter_cons, z_cat, z_catI, z_catJ, z_catF, z_catD]) (fun ls hl => ?_)
  refine lv_iconst (v := (-1 : Int32)) hx hb dX5_numbersBy_26 (by decide) ?_
  refine lv_istore (lv' := [(9, .int (-1 : Int32)), (8, .int (0 : Int32)), (7, .int x_16), (5, .double x_8), (0, va_rf (some h0)), (1, .int x1), (2, .int x2), (3, .int x3), (4, .int x4)]) hx hb dX5_numbersBy_27 hl (by decide) (by first | rfl | simp [List.filter_cons, z_cat, z_catI, z_catJ, z_catF, z_catD]) (fun ls hl => ?_)
  refine lv_bipush (v := (-20 : Int32)) hx hb dX5_numbersBy_29 (by decide) ?_
  refine lv_istore (lv' := [(10, .int (-20 : Int32)), (9, .int (-1 : Int32)), (8, .int (0 : Int32)), (7, .int x_16), (5, .double x_8), (0, va_rf (some h0)), (1, .int x1), (2, .int x2), (3, .int x3), (4, .int x4)]) hx hb dX5_numbersBy_31 hl (by decide) (by first | rfl | simp [List.filter_cons, z_cat, z_catI, z_catJ, z_catF, z_catD]) (fun ls hl => ?_)
  obtain ⟨I_33, ⟨n_89, hI⟩, hB_33⟩ := hw
  have hL_33 : ∀ (n_32 : Nat) (x_25 : UInt64) (x_26 : Int32) (x_27 : Int32) (x_28 : Int32) (x_29 : Int32) (hp_30 : zHp) (nx_31 : Nat) (H : Heap) (locs : List Loc) (ls : Array Slot), I_33 n_32 x_25 x_26 x_27 x_28 x_29 hp_30 nx_31 → lv_has ls 11 [(0, va_rf (some h0)), (1, .int x1), (2, .int x2), (3, .int x3), (4, .int x4), (5, .double x_25), (7, .int x_26), (8, .int x_27), (9, .int x_28), (10, .int x_29)] → zHd g hp_30 H → H.size = nx_31 → va_S (zAd g) s.heap H locs → W p l e (zrm (d + 1) 0 0) s m ([.ref h0, .int x1, .int x2, .int x3, .int x4] : List Value).toArray below meth c H locs 0 0 (MQ below (zQi g Post) ([.ref h0, .int x1, .int x2, .int x3, .int x4] : List Value).toArray s 0 0 (zAd g)) (F0 m 33 ls []) := by
    intro n_32
    induction n_32 using Nat.strongRecOn with
    | _ n_32 ih_33 =>
      intro x_25 x_26 x_27 x_28 x_29 hp_30 nx_31 H locs ls hw hl hH hz hS
      have hw := hB_33 n_32 x_25 x_26 x_27 x_28 x_29 hp_30 nx_31 hw
      refine lv_iload hx hb dX5_numbersBy_33 (lv_at hl 9 rfl) ?_
      refine lv_bipush (v := (20 : Int32)) hx hb dX5_numbersBy_35 (by decide) ?_
      refine lv_icmp_gt (tgt := 89) hx hb dX5_numbersBy_37 (by decide) (fun hc => ?_) (fun hc => ?_)
      · have hw := hw.1 hc
        refine zr_aload_n (r := some h0) hx hb dX5_numbersBy_89 rfl (lv_at hl 0 rfl) ?_
        obtain ⟨a_33, ci_34, fs_35, r_36, er, he, hc, hv, hw⟩ := zgR_e hw
        refine zw_get hk hH er he hv (fk_X5_17 hc) dX5_numbersBy_90 ?_
        refine lv_iload_n hx hb dX5_numbersBy_93 rfl (lv_at hl 3 rfl) ?_
        refine lv_dload hx hb dX5_numbersBy_94 (lv_at hl 5 rfl) ?_
        obtain ⟨a_37, n_38, f_39, er, he, hi, hA, hw⟩ := zaD_e hw
        obtain ⟨hp_40, eh⟩ : ∃ y : zHp, y = va_up hp_30 a_37 (some (.inl (g.2.1 1, n_38, .inr (.inr (.inr (.inl (va_up f_39 x3.toNatClampNeg x_25))))))) := ⟨_, rfl⟩
        have hw := hw hp_40 eh
        refine zw_dast hk hH hz hS er he hi hA eh dX5_numbersBy_96 (fun H locs hH hz hS => ?_)
        refine zr_aload_n (r := some h0) hx hb dX5_numbersBy_97 rfl (lv_at hl 0 rfl) ?_
        obtain ⟨a_41, ci_42, fs_43, r_44, er, he, hc, hv, hw⟩ := zgR_e hw
        refine zw_get hk hH er he hv (fk_X5_13 hc) dX5_numbersBy_98 ?_
        refine lv_iload_n hx hb dX5_numbersBy_101 rfl (lv_at hl 3 rfl) ?_
        refine lv_iload hx hb dX5_numbersBy_102 (lv_at hl 6 rfl) ?_
        obtain ⟨a_45, n_46, f_47, er, he, hi, hA, hw⟩ := zaI_e hw
        obtain ⟨hp_48, eh⟩ : ∃ y : zHp, y = va_up hp_40 a_45 (some (.inl (g.2.1 3, n_46, .inl (va_up f_47 x3.toNatClampNeg (vp_nar .boolean x_26))))) := ⟨_, rfl⟩
        have hw := hw hp_48 eh
        refine zw_zast hk hH hz hS er he hi hA eh dX5_numbersBy_104 (fun H locs hH hz hS => ?_)
        refine lv_iload hx hb dX5_numbersBy_105 (lv_at hl 4 rfl) ?_
        obtain ⟨P_117, hP_117, hw⟩ := hw
        have hJ_117 : ∀ (x_49 : UInt64) (x_50 : Int32) (x_51 : Int32) (x_52 : Int32) (x_53 : Int32) (x_54 : Int32) (hp_55 : zHp) (nx_56 : Nat) (H : Heap) (locs : List Loc) (ls : Array Slot), P_117 x_49 x_50 x_51 x_52 x_53 x_54 hp_55 nx_56 → lv_has ls 11 [(0, va_rf (some h0)), (1, .int x1), (2, .int x2), (3, .int x3), (4, .int x4), (5, .double x_49), (7, .int x_50), (8, .int x_51), (9, .int x_52), (10, .int x_53)] → zHd g hp_55 H → H.size = nx_56 → va_S (zAd g) s.heap H locs → W p l e (zrm (d + 1) 0 0) s m ([.ref h0, .int x1, .int x2, .int x3, .int x4] : List Value).toArray below meth c H locs 0 0 (MQ below (zQi g Post) ([.ref h0, .int x1, .int x2, .int x3, .int x4] : List Value).toArray s 0 0 (zAd g)) (F0 m 117 ls [.int x_54]) := by
          intro x_49 x_50 x_51 x_52 x_53 x_54 hp_55 nx_56 H locs ls hw hl hH hz hS
          have hw := hP_117 x_49 x_50 x_51 x_52 x_53 x_54 hp_55 nx_56 hw
          exact zr_iret hk hr hH hz hS hw (Nat.le_of_ble_eq_true rfl) (Nat.le_of_ble_eq_true rfl) dX5_numbersBy_117
        refine lv_if_eq (tgt := 115) hx hb dX5_numbersBy_107 (by decide) (fun hc => ?_) (fun hc => ?_)
        · have hw := hw.1 hc
          refine lv_iload hx hb dX5_numbersBy_115 (lv_at hl 7 rfl) ?_
          exact hJ_117 x_25 x_26 x_27 x_28 x_29 x_27 hp_48 nx_31 _ _ _ hw hl hH hz hS
        · have hw := hw.2 hc
          refine lv_iload hx hb dX5_numbersBy_110 (lv_at hl 8 rfl) ?_
          refine lv_goto (tgt := 117) hx hb dX5_numbersBy_112 (by decide) ?_
          exact hJ_117 x_25 x_26 x_27 x_28 x_29 x_28 hp_48 nx_31 _ _ _ hw hl hH hz hS
      · have hw := hw.2 hc
        refine zr_aload_n (r := some h0) hx hb dX5_numbersBy_40 rfl (lv_at hl 0 rfl) ?_
        obtain ⟨a_57, ci_58, fs_59, r_60, er, he, hc, hv, hw⟩ := zgR_e hw
        refine zw_get hk hH er he hv (fk_X5_17 hc) dX5_numbersBy_41 ?_
        refine lv_iload_n hx hb dX5_numbersBy_44 rfl (lv_at hl 3 rfl) ?_
        refine lv_iload hx hb dX5_numbersBy_45 (lv_at hl 9 rfl) ?_
        refine lv_i2d hx hb dX5_numbersBy_47 ?_
        obtain ⟨a_61, n_62, f_63, er, he, hi, hA, hw⟩ := zaD_e hw
        obtain ⟨hp_64, eh⟩ : ∃ y : zHp, y = va_up hp_30 a_61 (some (.inl (g.2.1 1, n_62, .inr (.inr (.inr (.inl (va_up f_63 x3.toNatClampNeg (FP.i2d x_29)))))))) := ⟨_, rfl⟩
        have hw := hw hp_64 eh
        refine zw_dast hk hH hz hS er he hi hA eh dX5_numbersBy_48 (fun H locs hH hz hS => ?_)
        refine zr_aload_n (r := some h0) hx hb dX5_numbersBy_49 rfl (lv_at hl 0 rfl) ?_
        refine lv_iload_n hx hb dX5_numbersBy_50 rfl (lv_at hl 1 rfl) ?_
        refine lv_iload_n hx hb dX5_numbersBy_51 rfl (lv_at hl 2 rfl) ?_
        obtain ⟨a_86, ci_87, fs_88, er, he, hc, hw⟩ := zo_e hw
        obtain rfl := List.mem_singleton.mp hc
        refine zr_calli (zw_runV (As := [.int x1, .int x2]) hk hH hz hS hl.1 er hw (cwV 2 hts (lw_V q3298 q3300 qs125 q162 q3301) rfl rfl rfl (by decide +kernel) (z_room (Nat.le_of_ble_eq_true rfl))) he rfl rfl rfl (Nat.le_of_ble_eq_true rfl) dX5_numbersBy_52 ⟨Nat.le_of_ble_eq_true rfl, Nat.le_of_ble_eq_true rfl⟩) hS (fun x_67 hp_65 nx_66 hw H locs hH hz hS => ?_)
        refine lv_iconst (v := (-1 : Int32)) hx hb dX5_numbersBy_55 (by decide) ?_
        obtain ⟨P_83, hP_83, hw⟩ := hw
        have hJ_83 : ∀ (x_68 : UInt64) (x_69 : Int32) (x_70 : Int32) (x_71 : Int32) (x_72 : Int32) (hp_73 : zHp) (nx_74 : Nat) (H : Heap) (locs : List Loc) (ls : Array Slot), P_83 x_68 x_69 x_70 x_71 x_72 hp_73 nx_74 → lv_has ls 11 [(0, va_rf (some h0)), (1, .int x1), (2, .int x2), (3, .int x3), (4, .int x4), (5, .double x_68), (7, .int x_69), (8, .int x_70), (9, .int x_71), (10, .int x_72)] → zHd g hp_73 H → H.size = nx_74 → va_S (zAd g) s.heap H locs → W p l e (zrm (d + 1) 0 0) s m ([.ref h0, .int x1, .int x2, .int x3, .int x4] : List Value).toArray below meth c H locs 0 0 (MQ below (zQi g Post) ([.ref h0, .int x1, .int x2, .int x3, .int x4] : List Value).toArray s 0 0 (zAd g)) (F0 m 83 ls []) := by
          intro x_68 x_69 x_70 x_71 x_72 hp_73 nx_74 H locs ls hw hl hH hz hS
          have hw := hP_83 x_68 x_69 x_70 x_71 x_72 hp_73 nx_74 hw
          obtain ⟨x_75, ex_75⟩ : ∃ y : Int32, y = x_72 + (1 : Int32) := ⟨_, rfl⟩
          have hw := hw x_75 ex_75
          refine lv_iinc (v := x_75) (lv' := [(10, .int x_75), (0, va_rf (some h0)), (1, .int x1), (2, .int x2), (3, .int x3), (4, .int x4), (5, .double x_68), (7, .int x_69), (8, .int x_70), (9, .int x_71)]) hx hb dX5_numbersBy_83 hl (k := 9) rfl (by rw [ex_75]; rfl) (by decide) (by first | rfl | simp [List.filter_cons, z_cat, z_catI, z_catJ, z_catF, z_catD]) (fun ls hl => ?_)
          refine lv_goto (tgt := 33) hx hb dX5_numbersBy_86 (by decide) ?_
          obtain ⟨k_76, hlt, hw⟩ := hw
          exact ih_33 k_76 hlt x_68 x_69 x_70 x_71 x_75 hp_73 nx_74 _ _ _ hw (lv_sub hl [1, 2, 3, 4, 5, 6, 7, 8, 9, 0] rfl) hH hz hS
        refine lv_icmp_eq (tgt := 62) hx hb dX5_numbersBy_56 (by decide) (fun hc => ?_) (fun hc => ?_)
        · have hw := hw.1 hc
          refine lv_iload hx hb dX5_numbersBy_62 (lv_at hl 7 rfl) ?_
          obtain ⟨P_78, hP_78, hw⟩ := hw
          have hJ_78 : ∀ (x_77 : UInt64) (x_78 : Int32) (x_79 : Int32) (x_80 : Int32) (x_81 : Int32) (x_82 : Int32) (hp_83 : zHp) (nx_84 : Nat) (H : Heap) (locs : List Loc) (ls : Array Slot), P_78 x_77 x_78 x_79 x_80 x_81 x_82 hp_83 nx_84 → lv_has ls 11 [(0, va_rf (some h0)), (1, .int x1), (2, .int x2), (3, .int x3), (4, .int x4), (5, .double x_77), (7, .int x_78), (8, .int x_79), (9, .int x_80), (10, .int x_81)] → zHd g hp_83 H → H.size = nx_84 → va_S (zAd g) s.heap H locs → W p l e (zrm (d + 1) 0 0) s m ([.ref h0, .int x1, .int x2, .int x3, .int x4] : List Value).toArray below meth c H locs 0 0 (MQ below (zQi g Post) ([.ref h0, .int x1, .int x2, .int x3, .int x4] : List Value).toArray s 0 0 (zAd g)) (F0 m 78 ls [.int x_82]) := by
            intro x_77 x_78 x_79 x_80 x_81 x_82 hp_83 nx_84 H locs ls hw hl hH hz hS
            have hw := hP_78 x_77 x_78 x_79 x_80 x_81 x_82 hp_83 nx_84 hw
            refine lv_istore (lv' := [(9, .int x_82), (0, va_rf (some h0)), (1, .int x1), (2, .int x2), (3, .int x3), (4, .int x4), (5, .double x_77), (7, .int x_78), (8, .int x_79), (10, .int x_81)]) hx hb dX5_numbersBy_78 hl (by decide) (by first | rfl | simp [List.filter_cons, z_cat, z_catI, z_catJ, z_catF, z_catD]) (fun ls hl => ?_)
            obtain ⟨x_85, ex_85⟩ : ∃ y : Int32, y = x_79 + (1 : Int32) := ⟨_, rfl⟩
            have hw := hw x_85 ex_85
            refine lv_iinc (v := x_85) (lv' := [(8, .int x_85), (9, .int x_82), (0, va_rf (some h0)), (1, .int x1), (2, .int x2), (3, .int x3), (4, .int x4), (5, .double x_77), (7, .int x_78), (10, .int x_81)]) hx hb dX5_numbersBy_80 hl (k := 8) rfl (by rw [ex_85]; rfl) (by decide) (by first | rfl | simp [List.filter_cons, z_cat, z_catI, z_catJ, z_catF, z_catD]) (fun ls hl => ?_)
            exact hJ_83 x_77 x_78 x_85 x_82 x_81 hp_83 nx_84 _ _ _ hw (lv_sub hl [2, 3, 4, 5, 6, 7, 8, 0, 1, 9] rfl) hH hz hS
          refine lv_if_ne (tgt := 76) hx hb dX5_numbersBy_64 (by decide) (fun hc => ?_) (fun hc => ?_)
          · have hw := hw.2 hc
            refine lv_iload hx hb dX5_numbersBy_76 (lv_at hl 8 rfl) ?_
            exact hJ_78 x_25 x_26 x_27 x_28 x_29 x_28 hp_65 nx_66 _ _ _ hw hl hH hz hS
          · have hw := hw.1 hc
            refine lv_sipush (v := (1000 : Int32)) hx hb dX5_numbersBy_67 (by decide) ?_
            refine lv_iload hx hb dX5_numbersBy_70 (lv_at hl 9 rfl) ?_
            refine lv_iadd hx hb dX5_numbersBy_72 ?_
            refine lv_goto (tgt := 78) hx hb dX5_numbersBy_73 (by decide) ?_
            exact hJ_78 x_25 x_26 x_27 x_28 x_29 ((1000 : Int32) + x_29) hp_65 nx_66 _ _ _ hw hl hH hz hS
        · have hw := hw.2 hc
          refine lv_goto (tgt := 83) hx hb dX5_numbersBy_59 (by decide) ?_
          exact hJ_83 x_25 x_26 x_27 x_28 x_29 hp_65 nx_66 _ _ _ hw hl hH hz hS
  exact hL_33 n_89 x_8 x_16 (0 : Int32) (-1 : Int32) (-20 : Int32) hp_24 nx _ _ _ hI (lv_sub hl [5, 6, 7, 8, 9, 4, 3, 2, 1, 0] rfl) hH hz hS
theorem fk_X5_129 {ci : Nat} (h : ci ∈ [5]) : zFk "WhatIfSheetModel" 129 ci 58 := by
  simp only [List.mem_cons, List.not_mem_nil, or_false] at h
  rcases h with rfl
  · exact ⟨RX5, TX5, 76, rfl, by decide, q2732⟩
theorem fk_X5_132 {ci : Nat} (h : ci ∈ [5]) : zFk "WhatIfSheetModel" 132 ci 59 := by
  simp only [List.mem_cons, List.not_mem_nil, or_false] at h
  rcases h with rfl
  · exact ⟨RX5, TX5, 76, rfl, by decide, q2733⟩
theorem fk_X5_135 {ci : Nat} (h : ci ∈ [5]) : zFk "WhatIfSheetModel" 135 ci 60 := by
  simp only [List.mem_cons, List.not_mem_nil, or_false] at h
  rcases h with rfl
  · exact ⟨RX5, TX5, 76, rfl, by decide, q2734⟩
theorem fk_X5_141 {ci : Nat} (h : ci ∈ [5]) : zFk "WhatIfSheetModel" 141 ci 62 := by
  simp only [List.mem_cons, List.not_mem_nil, or_false] at h
  rcases h with rfl
  · exact ⟨RX5, TX5, 76, rfl, by decide, q2736⟩
theorem fk_X5_138 {ci : Nat} (h : ci ∈ [5]) : zFk "WhatIfSheetModel" 138 ci 61 := by
  simp only [List.mem_cons, List.not_mem_nil, or_false] at h
  rcases h with rfl
  · exact ⟨RX5, TX5, 76, rfl, by decide, q2735⟩
theorem fk_X5_150 {ci : Nat} (h : ci ∈ [5]) : zFk "WhatIfSheetModel" 150 ci 65 := by
  simp only [List.mem_cons, List.not_mem_nil, or_false] at h
  rcases h with rfl
  · exact ⟨RX5, TX5, 76, rfl, by decide, q2739⟩
theorem fk_X5_153 {ci : Nat} (h : ci ∈ [5]) : zFk "WhatIfSheetModel" 153 ci 66 := by
  simp only [List.mem_cons, List.not_mem_nil, or_false] at h
  rcases h with rfl
  · exact ⟨RX5, TX5, 76, rfl, by decide, q2740⟩
theorem fk_X5_156 {ci : Nat} (h : ci ∈ [5]) : zFk "WhatIfSheetModel" 156 ci 67 := by
  simp only [List.mem_cons, List.not_mem_nil, or_false] at h
  rcases h with rfl
  · exact ⟨RX5, TX5, 76, rfl, by decide, q2741⟩
theorem fk_X5_159 {ci : Nat} (h : ci ∈ [5]) : zFk "WhatIfSheetModel" 159 ci 68 := by
  simp only [List.mem_cons, List.not_mem_nil, or_false] at h
  rcases h with rfl
  · exact ⟨RX5, TX5, 76, rfl, by decide, q2742⟩
theorem fp_X5_563 {ci : Nat} (h : ci ∈ [5]) : zFp "WhatIfSheetModel" 563 ci 57 .boolean := by
  simp only [List.mem_cons, List.not_mem_nil, or_false] at h
  rcases h with rfl
  · exact ⟨RX5, TX5, 76, rfl, by decide, q2731, rfl, by decide +kernel⟩
theorem fk_X5_162 {ci : Nat} (h : ci ∈ [5]) : zFk "WhatIfSheetModel" 162 ci 69 := by
  simp only [List.mem_cons, List.not_mem_nil, or_false] at h
  rcases h with rfl
  · exact ⟨RX5, TX5, 76, rfl, by decide, q2743⟩
theorem fk_X5_144 {ci : Nat} (h : ci ∈ [5]) : zFk "WhatIfSheetModel" 144 ci 63 := by
  simp only [List.mem_cons, List.not_mem_nil, or_false] at h
  rcases h with rfl
  · exact ⟨RX5, TX5, 76, rfl, by decide, q2737⟩
theorem fk_X5_147 {ci : Nat} (h : ci ∈ [5]) : zFk "WhatIfSheetModel" 147 ci 64 := by
  simp only [List.mem_cons, List.not_mem_nil, or_false] at h
  rcases h with rfl
  · exact ⟨RX5, TX5, 76, rfl, by decide, q2738⟩
def wp_X5_image (l : Launch) (g : zG) (d : Nat) (h0 : Nat) (hp : zHp) (nx : Nat) (Post : Int32 → zHp → Nat → Prop) : Prop :=
  (zgR hp (some h0) [5] 0 fun r_4 =>
  (zgR hp (some h0) [5] 58 fun r_8 =>
  (zaI (g.2.1 0) hp r_4 fun a_9 n_11 f_13 => zaI (g.2.1 0) hp r_8 fun a_10 n_12 f_14 => zB g ≤ a_10 ∧ ¬ (0 : Int32) < 0 ∧ ¬ (0 : Int32) < 0 ∧ ¬ (24 : Int32) < 0 ∧ (0 : Int32).toNatClampNeg + (24 : Int32).toNatClampNeg ≤ n_11 ∧ (0 : Int32).toNatClampNeg + (24 : Int32).toNatClampNeg ≤ n_12 ∧ (∀ i, i < (24 : Int32).toNatClampNeg → fits .int (.int (f_13 ((0 : Int32).toNatClampNeg + i))) = true) ∧ ∀ hp_15 : zHp, hp_15 = va_up hp a_10 (some (.inl (g.2.1 0, n_12, .inl (va_cpy f_13 f_14 (0 : Int32).toNatClampNeg (0 : Int32).toNatClampNeg (24 : Int32).toNatClampNeg)))) →
  (zgR hp_15 (some h0) [5] 3 fun r_19 =>
  (zgR hp_15 (some h0) [5] 59 fun r_23 =>
  (zaI (g.2.1 0) hp_15 r_19 fun a_24 n_26 f_28 => zaI (g.2.1 0) hp_15 r_23 fun a_25 n_27 f_29 => zB g ≤ a_25 ∧ ¬ (0 : Int32) < 0 ∧ ¬ (0 : Int32) < 0 ∧ ¬ (24 : Int32) < 0 ∧ (0 : Int32).toNatClampNeg + (24 : Int32).toNatClampNeg ≤ n_26 ∧ (0 : Int32).toNatClampNeg + (24 : Int32).toNatClampNeg ≤ n_27 ∧ (∀ i, i < (24 : Int32).toNatClampNeg → fits .int (.int (f_28 ((0 : Int32).toNatClampNeg + i))) = true) ∧ ∀ hp_30 : zHp, hp_30 = va_up hp_15 a_25 (some (.inl (g.2.1 0, n_27, .inl (va_cpy f_28 f_29 (0 : Int32).toNatClampNeg (0 : Int32).toNatClampNeg (24 : Int32).toNatClampNeg)))) →
  (zgR hp_30 (some h0) [5] 1 fun r_34 =>
  (zgR hp_30 (some h0) [5] 60 fun r_38 =>
  (zaI (g.2.1 3) hp_30 r_34 fun a_39 n_41 f_43 => zaI (g.2.1 3) hp_30 r_38 fun a_40 n_42 f_44 => zB g ≤ a_40 ∧ ¬ (0 : Int32) < 0 ∧ ¬ (0 : Int32) < 0 ∧ ¬ (24 : Int32) < 0 ∧ (0 : Int32).toNatClampNeg + (24 : Int32).toNatClampNeg ≤ n_41 ∧ (0 : Int32).toNatClampNeg + (24 : Int32).toNatClampNeg ≤ n_42 ∧ (∀ i, i < (24 : Int32).toNatClampNeg → fits .boolean (.int (f_43 ((0 : Int32).toNatClampNeg + i))) = true) ∧ ∀ hp_45 : zHp, hp_45 = va_up hp_30 a_40 (some (.inl (g.2.1 3, n_42, .inl (va_cpy f_43 f_44 (0 : Int32).toNatClampNeg (0 : Int32).toNatClampNeg (24 : Int32).toNatClampNeg)))) →
  (zgR hp_45 (some h0) [5] 2 fun r_49 =>
  (zgR hp_45 (some h0) [5] 62 fun r_53 =>
  (zaD (g.2.1 1) hp_45 r_49 fun a_54 n_56 f_58 => zaD (g.2.1 1) hp_45 r_53 fun a_55 n_57 f_59 => zB g ≤ a_55 ∧ ¬ (0 : Int32) < 0 ∧ ¬ (0 : Int32) < 0 ∧ ¬ (24 : Int32) < 0 ∧ (0 : Int32).toNatClampNeg + (24 : Int32).toNatClampNeg ≤ n_56 ∧ (0 : Int32).toNatClampNeg + (24 : Int32).toNatClampNeg ≤ n_57 ∧ (∀ i, i < (24 : Int32).toNatClampNeg → fits .double (.double (f_58 ((0 : Int32).toNatClampNeg + i))) = true) ∧ ∀ hp_60 : zHp, hp_60 = va_up hp_45 a_55 (some (.inl (g.2.1 1, n_57, .inr (.inr (.inr (.inl (va_cpy f_58 f_59 (0 : Int32).toNatClampNeg (0 : Int32).toNatClampNeg (24 : Int32).toNatClampNeg))))))) →
  (∃ I_62 : Nat → Int32 → zHp → Nat → Prop, (∃ n_228, I_62 n_228 (0 : Int32) hp_60 nx) ∧ ∀ (n_64 : Nat) (x_61 : Int32) (hp_62 : zHp) (nx_63 : Nat), I_62 n_64 x_61 hp_62 nx_63 →
  (((24 : Int32) ≤ x_61 →
  (zgR hp_62 (some h0) [5] 6 fun r_68 =>
  (zgR hp_62 (some h0) [5] 61 fun r_72 =>
  (zaI (g.2.1 3) hp_62 r_68 fun a_73 n_75 f_77 => zaI (g.2.1 3) hp_62 r_72 fun a_74 n_76 f_78 => zB g ≤ a_74 ∧ ¬ (0 : Int32) < 0 ∧ ¬ (0 : Int32) < 0 ∧ ¬ (6 : Int32) < 0 ∧ (0 : Int32).toNatClampNeg + (6 : Int32).toNatClampNeg ≤ n_75 ∧ (0 : Int32).toNatClampNeg + (6 : Int32).toNatClampNeg ≤ n_76 ∧ (∀ i, i < (6 : Int32).toNatClampNeg → fits .boolean (.int (f_77 ((0 : Int32).toNatClampNeg + i))) = true) ∧ ∀ hp_79 : zHp, hp_79 = va_up hp_62 a_74 (some (.inl (g.2.1 3, n_76, .inl (va_cpy f_77 f_78 (0 : Int32).toNatClampNeg (0 : Int32).toNatClampNeg (6 : Int32).toNatClampNeg)))) →
  (zgR hp_79 (some h0) [5] 7 fun r_83 =>
  (zgR hp_79 (some h0) [5] 65 fun r_87 =>
  (zaI (g.2.1 0) hp_79 r_83 fun a_88 n_90 f_92 => zaI (g.2.1 0) hp_79 r_87 fun a_89 n_91 f_93 => zB g ≤ a_89 ∧ ¬ (0 : Int32) < 0 ∧ ¬ (0 : Int32) < 0 ∧ ¬ (6 : Int32) < 0 ∧ (0 : Int32).toNatClampNeg + (6 : Int32).toNatClampNeg ≤ n_90 ∧ (0 : Int32).toNatClampNeg + (6 : Int32).toNatClampNeg ≤ n_91 ∧ (∀ i, i < (6 : Int32).toNatClampNeg → fits .int (.int (f_92 ((0 : Int32).toNatClampNeg + i))) = true) ∧ ∀ hp_94 : zHp, hp_94 = va_up hp_79 a_89 (some (.inl (g.2.1 0, n_91, .inl (va_cpy f_92 f_93 (0 : Int32).toNatClampNeg (0 : Int32).toNatClampNeg (6 : Int32).toNatClampNeg)))) →
  (zgR hp_94 (some h0) [5] 8 fun r_98 =>
  (zgR hp_94 (some h0) [5] 66 fun r_102 =>
  (zaI (g.2.1 0) hp_94 r_98 fun a_103 n_105 f_107 => zaI (g.2.1 0) hp_94 r_102 fun a_104 n_106 f_108 => zB g ≤ a_104 ∧ ¬ (0 : Int32) < 0 ∧ ¬ (0 : Int32) < 0 ∧ ¬ (6 : Int32) < 0 ∧ (0 : Int32).toNatClampNeg + (6 : Int32).toNatClampNeg ≤ n_105 ∧ (0 : Int32).toNatClampNeg + (6 : Int32).toNatClampNeg ≤ n_106 ∧ (∀ i, i < (6 : Int32).toNatClampNeg → fits .int (.int (f_107 ((0 : Int32).toNatClampNeg + i))) = true) ∧ ∀ hp_109 : zHp, hp_109 = va_up hp_94 a_104 (some (.inl (g.2.1 0, n_106, .inl (va_cpy f_107 f_108 (0 : Int32).toNatClampNeg (0 : Int32).toNatClampNeg (6 : Int32).toNatClampNeg)))) →
  (zgR hp_109 (some h0) [5] 9 fun r_113 =>
  (zgR hp_109 (some h0) [5] 67 fun r_117 =>
  (zaI (g.2.1 0) hp_109 r_113 fun a_118 n_120 f_122 => zaI (g.2.1 0) hp_109 r_117 fun a_119 n_121 f_123 => zB g ≤ a_119 ∧ ¬ (0 : Int32) < 0 ∧ ¬ (0 : Int32) < 0 ∧ ¬ (6 : Int32) < 0 ∧ (0 : Int32).toNatClampNeg + (6 : Int32).toNatClampNeg ≤ n_120 ∧ (0 : Int32).toNatClampNeg + (6 : Int32).toNatClampNeg ≤ n_121 ∧ (∀ i, i < (6 : Int32).toNatClampNeg → fits .int (.int (f_122 ((0 : Int32).toNatClampNeg + i))) = true) ∧ ∀ hp_124 : zHp, hp_124 = va_up hp_109 a_119 (some (.inl (g.2.1 0, n_121, .inl (va_cpy f_122 f_123 (0 : Int32).toNatClampNeg (0 : Int32).toNatClampNeg (6 : Int32).toNatClampNeg)))) →
  (zgR hp_124 (some h0) [5] 10 fun r_128 =>
  (zgR hp_124 (some h0) [5] 68 fun r_132 =>
  (zaI (g.2.1 0) hp_124 r_128 fun a_133 n_135 f_137 => zaI (g.2.1 0) hp_124 r_132 fun a_134 n_136 f_138 => zB g ≤ a_134 ∧ ¬ (0 : Int32) < 0 ∧ ¬ (0 : Int32) < 0 ∧ ¬ (12 : Int32) < 0 ∧ (0 : Int32).toNatClampNeg + (12 : Int32).toNatClampNeg ≤ n_135 ∧ (0 : Int32).toNatClampNeg + (12 : Int32).toNatClampNeg ≤ n_136 ∧ (∀ i, i < (12 : Int32).toNatClampNeg → fits .int (.int (f_137 ((0 : Int32).toNatClampNeg + i))) = true) ∧ ∀ hp_139 : zHp, hp_139 = va_up hp_124 a_134 (some (.inl (g.2.1 0, n_136, .inl (va_cpy f_137 f_138 (0 : Int32).toNatClampNeg (0 : Int32).toNatClampNeg (12 : Int32).toNatClampNeg)))) →
  (∃ I_189 : Nat → Int32 → zHp → Nat → Prop, (∃ n_179, I_189 n_179 (0 : Int32) hp_139 nx_63) ∧ ∀ (n_143 : Nat) (x_140 : Int32) (hp_141 : zHp) (nx_142 : Nat), I_189 n_143 x_140 hp_141 nx_142 →
  (((12 : Int32) ≤ x_140 →
  (zpt g hp_141 (some h0) [5] 57 (.int (1 : Int32)) fun hp_147 =>
  (zo hp_147 (some h0) [5] fun a_151 ci_152 fs_153 => zMt l g yX5_formulas cX5_formulas 3 (some .int) d 0 0 (.ref a_151 :: []) hp_147 nx_142 (zQi g fun x_150 hp_148 nx_149 =>
  (Post x_150 hp_148 nx_149))))) ∧
  (¬ (12 : Int32) ≤ x_140 →
  (zgR hp_141 (some h0) [5] 11 fun r_157 =>
  (zaR (g.2.1 15) hp_141 r_157 fun a_158 n_159 f_160 => vp_in x_140 n_159 ∧ ∀ r_161 : Option Nat, r_161 = f_160 x_140.toNatClampNeg →
  (zgR hp_141 (some h0) [5] 69 fun r_165 =>
  (zaR (g.2.1 15) hp_141 r_165 fun a_166 n_167 f_168 => vp_in x_140 n_167 ∧ ∀ r_169 : Option Nat, r_169 = f_168 x_140.toNatClampNeg →
  (zaD (g.2.1 1) hp_141 r_161 fun a_170 n_172 f_174 => zaD (g.2.1 1) hp_141 r_169 fun a_171 n_173 f_175 => zB g ≤ a_171 ∧ ¬ (0 : Int32) < 0 ∧ ¬ (0 : Int32) < 0 ∧ ¬ (8 : Int32) < 0 ∧ (0 : Int32).toNatClampNeg + (8 : Int32).toNatClampNeg ≤ n_172 ∧ (0 : Int32).toNatClampNeg + (8 : Int32).toNatClampNeg ≤ n_173 ∧ (∀ i, i < (8 : Int32).toNatClampNeg → fits .double (.double (f_174 ((0 : Int32).toNatClampNeg + i))) = true) ∧ ∀ hp_176 : zHp, hp_176 = va_up hp_141 a_171 (some (.inl (g.2.1 1, n_173, .inr (.inr (.inr (.inl (va_cpy f_174 f_175 (0 : Int32).toNatClampNeg (0 : Int32).toNatClampNeg (8 : Int32).toNatClampNeg))))))) →
  (∀ x_177 : Int32, x_177 = x_140 + (1 : Int32) →
  (∃ k_178, k_178 < n_143 ∧ I_189 k_178 x_177 hp_176 nx_142)))))))))))))))))))))))))) ∧
  (¬ (24 : Int32) ≤ x_61 →
  (zgR hp_62 (some h0) [5] 4 fun r_183 =>
  (zaR (g.2.1 14) hp_62 r_183 fun a_184 n_185 f_186 => vp_in x_61 n_185 ∧ ∀ r_187 : Option Nat, r_187 = f_186 x_61.toNatClampNeg →
  (zgR hp_62 (some h0) [5] 63 fun r_191 =>
  (zaR (g.2.1 14) hp_62 r_191 fun a_192 n_193 f_194 => vp_in x_61 n_193 ∧ ∀ r_195 : Option Nat, r_195 = f_194 x_61.toNatClampNeg →
  (zaI (g.2.1 0) hp_62 r_187 fun a_196 n_198 f_200 => zaI (g.2.1 0) hp_62 r_195 fun a_197 n_199 f_201 => zB g ≤ a_197 ∧ ¬ (0 : Int32) < 0 ∧ ¬ (0 : Int32) < 0 ∧ ¬ (96 : Int32) < 0 ∧ (0 : Int32).toNatClampNeg + (96 : Int32).toNatClampNeg ≤ n_198 ∧ (0 : Int32).toNatClampNeg + (96 : Int32).toNatClampNeg ≤ n_199 ∧ (∀ i, i < (96 : Int32).toNatClampNeg → fits .int (.int (f_200 ((0 : Int32).toNatClampNeg + i))) = true) ∧ ∀ hp_202 : zHp, hp_202 = va_up hp_62 a_197 (some (.inl (g.2.1 0, n_199, .inl (va_cpy f_200 f_201 (0 : Int32).toNatClampNeg (0 : Int32).toNatClampNeg (96 : Int32).toNatClampNeg)))) →
  (zgR hp_202 (some h0) [5] 5 fun r_206 =>
  (zaR (g.2.1 15) hp_202 r_206 fun a_207 n_208 f_209 => vp_in x_61 n_208 ∧ ∀ r_210 : Option Nat, r_210 = f_209 x_61.toNatClampNeg →
  (zgR hp_202 (some h0) [5] 64 fun r_214 =>
  (zaR (g.2.1 15) hp_202 r_214 fun a_215 n_216 f_217 => vp_in x_61 n_216 ∧ ∀ r_218 : Option Nat, r_218 = f_217 x_61.toNatClampNeg →
  (zaD (g.2.1 1) hp_202 r_210 fun a_219 n_221 f_223 => zaD (g.2.1 1) hp_202 r_218 fun a_220 n_222 f_224 => zB g ≤ a_220 ∧ ¬ (0 : Int32) < 0 ∧ ¬ (0 : Int32) < 0 ∧ ¬ (96 : Int32) < 0 ∧ (0 : Int32).toNatClampNeg + (96 : Int32).toNatClampNeg ≤ n_221 ∧ (0 : Int32).toNatClampNeg + (96 : Int32).toNatClampNeg ≤ n_222 ∧ (∀ i, i < (96 : Int32).toNatClampNeg → fits .double (.double (f_223 ((0 : Int32).toNatClampNeg + i))) = true) ∧ ∀ hp_225 : zHp, hp_225 = va_up hp_202 a_220 (some (.inl (g.2.1 1, n_222, .inr (.inr (.inr (.inl (va_cpy f_223 f_224 (0 : Int32).toNatClampNeg (0 : Int32).toNatClampNeg (96 : Int32).toNatClampNeg))))))) →
  (∀ x_226 : Int32, x_226 = x_61 + (1 : Int32) →
  (∃ k_227, k_227 < n_64 ∧ I_62 k_227 x_226 hp_225 nx_63)))))))))))))))))))))))))))
set_option maxHeartbeats 40000000 in
theorem met_X5_image {l : Launch} {g : zG} {d : Nat} {h0 : Nat} {hp : zHp} {nx : Nat} {Post : Int32 → zHp → Nat → Prop} (hw : wp_X5_image l g d h0 hp nx Post) : zMt l g yX5_image cX5_image 2 (some .int) (d + 1) 0 0 [.ref h0] hp nx (zQi g Post) := by
  refine z_start (by decide) (Nat.le_of_ble_eq_true rfl) ?_
  intro p e s m below meth c hk hr hin hH hz ls hl
  have hx := hk.1.1
  have hb := hk.1.2.1
  have hown := hk.1.2.2.2.1
  have hts := hk.1.2.2.2.2
  have hS : va_S (zAd g) s.heap s.heap [] := va_S.rf
  have hl : lv_has ls 2 [(0, va_rf (some h0))] := hl
  unfold wp_X5_image at hw
  refine zr_aload_n (r := some h0) hx hb dX5_image_0 rfl (lv_at hl 0 rfl) ?_
  obtain ⟨a_1, ci_2, fs_3, r_4, er, he, hc, hv, hw⟩ := zgR_e hw
  refine zw_get hk hH er he hv (fk_X5_9 hc) dX5_image_1 ?_
  refine lv_iconst (v := (0 : Int32)) hx hb dX5_image_4 (by decide) ?_
  refine zr_aload_n (r := some h0) hx hb dX5_image_5 rfl (lv_at hl 0 rfl) ?_
  obtain ⟨a_5, ci_6, fs_7, r_8, er, he, hc, hv, hw⟩ := zgR_e hw
  refine zw_get hk hH er he hv (fk_X5_129 hc) dX5_image_6 ?_
  refine lv_iconst (v := (0 : Int32)) hx hb dX5_image_9 (by decide) ?_
  refine lv_bipush (v := (24 : Int32)) hx hb dX5_image_10 (by decide) ?_
  obtain ⟨a_9, n_11, f_13, er0, he0, hw⟩ := zaI_e hw
  obtain ⟨a_10, n_12, f_14, er1, he1, hA, h1, h2, h3, h4, h5, hft, hw⟩ := zaI_e hw
  obtain ⟨hp_15, eh⟩ : ∃ y : zHp, y = va_up hp a_10 (some (.inl (g.2.1 0, n_12, .inl (va_cpy f_13 f_14 (0 : Int32).toNatClampNeg (0 : Int32).toNatClampNeg (24 : Int32).toNatClampNeg)))) := ⟨_, rfl⟩
  have hw := hw hp_15 eh
  refine zw_copyI (r0 := r_4) (r1 := r_8) (ty := .int) hk hH hz hS hl.1 q3171 q432 q431 q145 0 er0 er1 he0 he1 rfl rfl hA h1 h2 h3 h4 h5 hft eh (Nat.le_add_left 1 d) (Nat.le_trans (Nat.le_of_ble_eq_true rfl : _ ≤ 64) (by show 64 ≤ 64 * (d + 1); omega)) dX5_image_12 (fun H locs hH hz hS => ?_)
  refine zr_aload_n (r := some h0) hx hb dX5_image_15 rfl (lv_at hl 0 rfl) ?_
  obtain ⟨a_16, ci_17, fs_18, r_19, er, he, hc, hv, hw⟩ := zgR_e hw
  refine zw_get hk hH er he hv (fk_X5_21 hc) dX5_image_16 ?_
  refine lv_iconst (v := (0 : Int32)) hx hb dX5_image_19 (by decide) ?_
  refine zr_aload_n (r := some h0) hx hb dX5_image_20 rfl (lv_at hl 0 rfl) ?_
  obtain ⟨a_20, ci_21, fs_22, r_23, er, he, hc, hv, hw⟩ := zgR_e hw
  refine zw_get hk hH er he hv (fk_X5_132 hc) dX5_image_21 ?_
  refine lv_iconst (v := (0 : Int32)) hx hb dX5_image_24 (by decide) ?_
  refine lv_bipush (v := (24 : Int32)) hx hb dX5_image_25 (by decide) ?_
  obtain ⟨a_24, n_26, f_28, er0, he0, hw⟩ := zaI_e hw
  obtain ⟨a_25, n_27, f_29, er1, he1, hA, h1, h2, h3, h4, h5, hft, hw⟩ := zaI_e hw
  obtain ⟨hp_30, eh⟩ : ∃ y : zHp, y = va_up hp_15 a_25 (some (.inl (g.2.1 0, n_27, .inl (va_cpy f_28 f_29 (0 : Int32).toNatClampNeg (0 : Int32).toNatClampNeg (24 : Int32).toNatClampNeg)))) := ⟨_, rfl⟩
  have hw := hw hp_30 eh
  refine zw_copyI (r0 := r_19) (r1 := r_23) (ty := .int) hk hH hz hS hl.1 q3171 q432 q431 q145 0 er0 er1 he0 he1 rfl rfl hA h1 h2 h3 h4 h5 hft eh (Nat.le_add_left 1 d) (Nat.le_trans (Nat.le_of_ble_eq_true rfl : _ ≤ 64) (by show 64 ≤ 64 * (d + 1); omega)) dX5_image_27 (fun H locs hH hz hS => ?_)
  refine zr_aload_n (r := some h0) hx hb dX5_image_30 rfl (lv_at hl 0 rfl) ?_
  obtain ⟨a_31, ci_32, fs_33, r_34, er, he, hc, hv, hw⟩ := zgR_e hw
  refine zw_get hk hH er he hv (fk_X5_13 hc) dX5_image_31 ?_
  refine lv_iconst (v := (0 : Int32)) hx hb dX5_image_34 (by decide) ?_
  refine zr_aload_n (r := some h0) hx hb dX5_image_35 rfl (lv_at hl 0 rfl) ?_
  obtain ⟨a_35, ci_36, fs_37, r_38, er, he, hc, hv, hw⟩ := zgR_e hw
  refine zw_get hk hH er he hv (fk_X5_135 hc) dX5_image_36 ?_
  refine lv_iconst (v := (0 : Int32)) hx hb dX5_image_39 (by decide) ?_
  refine lv_bipush (v := (24 : Int32)) hx hb dX5_image_40 (by decide) ?_
  obtain ⟨a_39, n_41, f_43, er0, he0, hw⟩ := zaI_e hw
  obtain ⟨a_40, n_42, f_44, er1, he1, hA, h1, h2, h3, h4, h5, hft, hw⟩ := zaI_e hw
  obtain ⟨hp_45, eh⟩ : ∃ y : zHp, y = va_up hp_30 a_40 (some (.inl (g.2.1 3, n_42, .inl (va_cpy f_43 f_44 (0 : Int32).toNatClampNeg (0 : Int32).toNatClampNeg (24 : Int32).toNatClampNeg)))) := ⟨_, rfl⟩
  have hw := hw hp_45 eh
  refine zw_copyI (r0 := r_34) (r1 := r_38) (ty := .boolean) hk hH hz hS hl.1 q3171 q432 q431 q145 3 er0 er1 he0 he1 rfl rfl hA h1 h2 h3 h4 h5 hft eh (Nat.le_add_left 1 d) (Nat.le_trans (Nat.le_of_ble_eq_true rfl : _ ≤ 64) (by show 64 ≤ 64 * (d + 1); omega)) dX5_image_42 (fun H locs hH hz hS => ?_)
  refine zr_aload_n (r := some h0) hx hb dX5_image_45 rfl (lv_at hl 0 rfl) ?_
  obtain ⟨a_46, ci_47, fs_48, r_49, er, he, hc, hv, hw⟩ := zgR_e hw
  refine zw_get hk hH er he hv (fk_X5_17 hc) dX5_image_46 ?_
  refine lv_iconst (v := (0 : Int32)) hx hb dX5_image_49 (by decide) ?_
  refine zr_aload_n (r := some h0) hx hb dX5_image_50 rfl (lv_at hl 0 rfl) ?_
  obtain ⟨a_50, ci_51, fs_52, r_53, er, he, hc, hv, hw⟩ := zgR_e hw
  refine zw_get hk hH er he hv (fk_X5_141 hc) dX5_image_51 ?_
  refine lv_iconst (v := (0 : Int32)) hx hb dX5_image_54 (by decide) ?_
  refine lv_bipush (v := (24 : Int32)) hx hb dX5_image_55 (by decide) ?_
  obtain ⟨a_54, n_56, f_58, er0, he0, hw⟩ := zaD_e hw
  obtain ⟨a_55, n_57, f_59, er1, he1, hA, h1, h2, h3, h4, h5, hft, hw⟩ := zaD_e hw
  obtain ⟨hp_60, eh⟩ : ∃ y : zHp, y = va_up hp_45 a_55 (some (.inl (g.2.1 1, n_57, .inr (.inr (.inr (.inl (va_cpy f_58 f_59 (0 : Int32).toNatClampNeg (0 : Int32).toNatClampNeg (24 : Int32).toNatClampNeg))))))) := ⟨_, rfl⟩
  have hw := hw hp_60 eh
  refine zw_copyD (r0 := r_49) (r1 := r_53) (ty := .double) hk hH hz hS hl.1 q3171 q432 q431 q145 1 er0 er1 he0 he1 rfl rfl hA h1 h2 h3 h4 h5 hft eh (Nat.le_add_left 1 d) (Nat.le_trans (Nat.le_of_ble_eq_true rfl : _ ≤ 64) (by show 64 ≤ 64 * (d + 1); omega)) dX5_image_57 (fun H locs hH hz hS => ?_)
  refine lv_iconst (v := (0 : Int32)) hx hb dX5_image_60 (by decide) ?_
  refine lv_istore_n (i := 1) (lv' := [(1, .int (0 : Int32)), (0, va_rf (some h0))]) hx hb dX5_image_61 rfl hl (by decide) (by first | rfl | simp [List.filter_cons, z_cat, z_catI, z_catJ, z_catF, z_catD]) (fun ls hl => ?_)
  obtain ⟨I_62, ⟨n_228, hI⟩, hB_62⟩ := hw
  have hL_62 : ∀ (n_64 : Nat) (x_61 : Int32) (hp_62 : zHp) (nx_63 : Nat) (H : Heap) (locs : List Loc) (ls : Array Slot), I_62 n_64 x_61 hp_62 nx_63 → lv_has ls 2 [(0, va_rf (some h0)), (1, .int x_61)] → zHd g hp_62 H → H.size = nx_63 → va_S (zAd g) s.heap H locs → W p l e (zrm (d + 1) 0 0) s m ([.ref h0] : List Value).toArray below meth c H locs 0 0 (MQ below (zQi g Post) ([.ref h0] : List Value).toArray s 0 0 (zAd g)) (F0 m 62 ls []) := by
    intro n_64
    induction n_64 using Nat.strongRecOn with
    | _ n_64 ih_62 =>
      intro x_61 hp_62 nx_63 H locs ls hw hl hH hz hS
      have hw := hB_62 n_64 x_61 hp_62 nx_63 hw
      refine lv_iload_n hx hb dX5_image_62 rfl (lv_at hl 1 rfl) ?_
      refine lv_bipush (v := (24 : Int32)) hx hb dX5_image_63 (by decide) ?_
      refine lv_icmp_ge (tgt := 112) hx hb dX5_image_65 (by decide) (fun hc => ?_) (fun hc => ?_)
      · have hw := hw.1 hc
        refine zr_aload_n (r := some h0) hx hb dX5_image_112 rfl (lv_at hl 0 rfl) ?_
        obtain ⟨a_65, ci_66, fs_67, r_68, er, he, hc, hv, hw⟩ := zgR_e hw
        refine zw_get hk hH er he hv (fk_X5_34 hc) dX5_image_113 ?_
        refine lv_iconst (v := (0 : Int32)) hx hb dX5_image_116 (by decide) ?_
        refine zr_aload_n (r := some h0) hx hb dX5_image_117 rfl (lv_at hl 0 rfl) ?_
        obtain ⟨a_69, ci_70, fs_71, r_72, er, he, hc, hv, hw⟩ := zgR_e hw
        refine zw_get hk hH er he hv (fk_X5_138 hc) dX5_image_118 ?_
        refine lv_iconst (v := (0 : Int32)) hx hb dX5_image_121 (by decide) ?_
        refine lv_bipush (v := (6 : Int32)) hx hb dX5_image_122 (by decide) ?_
        obtain ⟨a_73, n_75, f_77, er0, he0, hw⟩ := zaI_e hw
        obtain ⟨a_74, n_76, f_78, er1, he1, hA, h1, h2, h3, h4, h5, hft, hw⟩ := zaI_e hw
        obtain ⟨hp_79, eh⟩ : ∃ y : zHp, y = va_up hp_62 a_74 (some (.inl (g.2.1 3, n_76, .inl (va_cpy f_77 f_78 (0 : Int32).toNatClampNeg (0 : Int32).toNatClampNeg (6 : Int32).toNatClampNeg)))) := ⟨_, rfl⟩
        have hw := hw hp_79 eh
        refine zw_copyI (r0 := r_68) (r1 := r_72) (ty := .boolean) hk hH hz hS hl.1 q3171 q432 q431 q145 3 er0 er1 he0 he1 rfl rfl hA h1 h2 h3 h4 h5 hft eh (Nat.le_add_left 1 d) (Nat.le_trans (Nat.le_of_ble_eq_true rfl : _ ≤ 64) (by show 64 ≤ 64 * (d + 1); omega)) dX5_image_124 (fun H locs hH hz hS => ?_)
        refine zr_aload_n (r := some h0) hx hb dX5_image_127 rfl (lv_at hl 0 rfl) ?_
        obtain ⟨a_80, ci_81, fs_82, r_83, er, he, hc, hv, hw⟩ := zgR_e hw
        refine zw_get hk hH er he hv (fk_X5_37 hc) dX5_image_128 ?_
        refine lv_iconst (v := (0 : Int32)) hx hb dX5_image_131 (by decide) ?_
        refine zr_aload_n (r := some h0) hx hb dX5_image_132 rfl (lv_at hl 0 rfl) ?_
        obtain ⟨a_84, ci_85, fs_86, r_87, er, he, hc, hv, hw⟩ := zgR_e hw
        refine zw_get hk hH er he hv (fk_X5_150 hc) dX5_image_133 ?_
        refine lv_iconst (v := (0 : Int32)) hx hb dX5_image_136 (by decide) ?_
        refine lv_bipush (v := (6 : Int32)) hx hb dX5_image_137 (by decide) ?_
        obtain ⟨a_88, n_90, f_92, er0, he0, hw⟩ := zaI_e hw
        obtain ⟨a_89, n_91, f_93, er1, he1, hA, h1, h2, h3, h4, h5, hft, hw⟩ := zaI_e hw
        obtain ⟨hp_94, eh⟩ : ∃ y : zHp, y = va_up hp_79 a_89 (some (.inl (g.2.1 0, n_91, .inl (va_cpy f_92 f_93 (0 : Int32).toNatClampNeg (0 : Int32).toNatClampNeg (6 : Int32).toNatClampNeg)))) := ⟨_, rfl⟩
        have hw := hw hp_94 eh
        refine zw_copyI (r0 := r_83) (r1 := r_87) (ty := .int) hk hH hz hS hl.1 q3171 q432 q431 q145 0 er0 er1 he0 he1 rfl rfl hA h1 h2 h3 h4 h5 hft eh (Nat.le_add_left 1 d) (Nat.le_trans (Nat.le_of_ble_eq_true rfl : _ ≤ 64) (by show 64 ≤ 64 * (d + 1); omega)) dX5_image_139 (fun H locs hH hz hS => ?_)
        refine zr_aload_n (r := some h0) hx hb dX5_image_142 rfl (lv_at hl 0 rfl) ?_
        obtain ⟨a_95, ci_96, fs_97, r_98, er, he, hc, hv, hw⟩ := zgR_e hw
        refine zw_get hk hH er he hv (fk_X5_40 hc) dX5_image_143 ?_
        refine lv_iconst (v := (0 : Int32)) hx hb dX5_image_146 (by decide) ?_
        refine zr_aload_n (r := some h0) hx hb dX5_image_147 rfl (lv_at hl 0 rfl) ?_
        obtain ⟨a_99, ci_100, fs_101, r_102, er, he, hc, hv, hw⟩ := zgR_e hw
        refine zw_get hk hH er he hv (fk_X5_153 hc) dX5_image_148 ?_
        refine lv_iconst (v := (0 : Int32)) hx hb dX5_image_151 (by decide) ?_
        refine lv_bipush (v := (6 : Int32)) hx hb dX5_image_152 (by decide) ?_
        obtain ⟨a_103, n_105, f_107, er0, he0, hw⟩ := zaI_e hw
        obtain ⟨a_104, n_106, f_108, er1, he1, hA, h1, h2, h3, h4, h5, hft, hw⟩ := zaI_e hw
        obtain ⟨hp_109, eh⟩ : ∃ y : zHp, y = va_up hp_94 a_104 (some (.inl (g.2.1 0, n_106, .inl (va_cpy f_107 f_108 (0 : Int32).toNatClampNeg (0 : Int32).toNatClampNeg (6 : Int32).toNatClampNeg)))) := ⟨_, rfl⟩
        have hw := hw hp_109 eh
        refine zw_copyI (r0 := r_98) (r1 := r_102) (ty := .int) hk hH hz hS hl.1 q3171 q432 q431 q145 0 er0 er1 he0 he1 rfl rfl hA h1 h2 h3 h4 h5 hft eh (Nat.le_add_left 1 d) (Nat.le_trans (Nat.le_of_ble_eq_true rfl : _ ≤ 64) (by show 64 ≤ 64 * (d + 1); omega)) dX5_image_154 (fun H locs hH hz hS => ?_)
        refine zr_aload_n (r := some h0) hx hb dX5_image_157 rfl (lv_at hl 0 rfl) ?_
        obtain ⟨a_110, ci_111, fs_112, r_113, er, he, hc, hv, hw⟩ := zgR_e hw
        refine zw_get hk hH er he hv (fk_X5_43 hc) dX5_image_158 ?_
        refine lv_iconst (v := (0 : Int32)) hx hb dX5_image_161 (by decide) ?_
        refine zr_aload_n (r := some h0) hx hb dX5_image_162 rfl (lv_at hl 0 rfl) ?_
        obtain ⟨a_114, ci_115, fs_116, r_117, er, he, hc, hv, hw⟩ := zgR_e hw
        refine zw_get hk hH er he hv (fk_X5_156 hc) dX5_image_163 ?_
        refine lv_iconst (v := (0 : Int32)) hx hb dX5_image_166 (by decide) ?_
        refine lv_bipush (v := (6 : Int32)) hx hb dX5_image_167 (by decide) ?_
        obtain ⟨a_118, n_120, f_122, er0, he0, hw⟩ := zaI_e hw
        obtain ⟨a_119, n_121, f_123, er1, he1, hA, h1, h2, h3, h4, h5, hft, hw⟩ := zaI_e hw
        obtain ⟨hp_124, eh⟩ : ∃ y : zHp, y = va_up hp_109 a_119 (some (.inl (g.2.1 0, n_121, .inl (va_cpy f_122 f_123 (0 : Int32).toNatClampNeg (0 : Int32).toNatClampNeg (6 : Int32).toNatClampNeg)))) := ⟨_, rfl⟩
        have hw := hw hp_124 eh
        refine zw_copyI (r0 := r_113) (r1 := r_117) (ty := .int) hk hH hz hS hl.1 q3171 q432 q431 q145 0 er0 er1 he0 he1 rfl rfl hA h1 h2 h3 h4 h5 hft eh (Nat.le_add_left 1 d) (Nat.le_trans (Nat.le_of_ble_eq_true rfl : _ ≤ 64) (by show 64 ≤ 64 * (d + 1); omega)) dX5_image_169 (fun H locs hH hz hS => ?_)
        refine zr_aload_n (r := some h0) hx hb dX5_image_172 rfl (lv_at hl 0 rfl) ?_
        obtain ⟨a_125, ci_126, fs_127, r_128, er, he, hc, hv, hw⟩ := zgR_e hw
        refine zw_get hk hH er he hv (fk_X5_46 hc) dX5_image_173 ?_
        refine lv_iconst (v := (0 : Int32)) hx hb dX5_image_176 (by decide) ?_
        refine zr_aload_n (r := some h0) hx hb dX5_image_177 rfl (lv_at hl 0 rfl) ?_
        obtain ⟨a_129, ci_130, fs_131, r_132, er, he, hc, hv, hw⟩ := zgR_e hw
        refine zw_get hk hH er he hv (fk_X5_159 hc) dX5_image_178 ?_
        refine lv_iconst (v := (0 : Int32)) hx hb dX5_image_181 (by decide) ?_
        refine lv_bipush (v := (12 : Int32)) hx hb dX5_image_182 (by decide) ?_
        obtain ⟨a_133, n_135, f_137, er0, he0, hw⟩ := zaI_e hw
        obtain ⟨a_134, n_136, f_138, er1, he1, hA, h1, h2, h3, h4, h5, hft, hw⟩ := zaI_e hw
        obtain ⟨hp_139, eh⟩ : ∃ y : zHp, y = va_up hp_124 a_134 (some (.inl (g.2.1 0, n_136, .inl (va_cpy f_137 f_138 (0 : Int32).toNatClampNeg (0 : Int32).toNatClampNeg (12 : Int32).toNatClampNeg)))) := ⟨_, rfl⟩
        have hw := hw hp_139 eh
        refine zw_copyI (r0 := r_128) (r1 := r_132) (ty := .int) hk hH hz hS hl.1 q3171 q432 q431 q145 0 er0 er1 he0 he1 rfl rfl hA h1 h2 h3 h4 h5 hft eh (Nat.le_add_left 1 d) (Nat.le_trans (Nat.le_of_ble_eq_true rfl : _ ≤ 64) (by show 64 ≤ 64 * (d + 1); omega)) dX5_image_184 (fun H locs hH hz hS => ?_)
        refine lv_iconst (v := (0 : Int32)) hx hb dX5_image_187 (by decide) ?_
        refine lv_istore_n (i := 1) (lv' := [(1, .int (0 : Int32)), (0, va_rf (some h0))]) hx hb dX5_image_188 rfl hl (by decide) (by first | rfl | simp [List.filter_cons, z_cat, z_catI, z_catJ, z_catF, z_catD]) (fun ls hl => ?_)
        obtain ⟨I_189, ⟨n_179, hI⟩, hB_189⟩ := hw
        have hL_189 : ∀ (n_143 : Nat) (x_140 : Int32) (hp_141 : zHp) (nx_142 : Nat) (H : Heap) (locs : List Loc) (ls : Array Slot), I_189 n_143 x_140 hp_141 nx_142 → lv_has ls 2 [(0, va_rf (some h0)), (1, .int x_140)] → zHd g hp_141 H → H.size = nx_142 → va_S (zAd g) s.heap H locs → W p l e (zrm (d + 1) 0 0) s m ([.ref h0] : List Value).toArray below meth c H locs 0 0 (MQ below (zQi g Post) ([.ref h0] : List Value).toArray s 0 0 (zAd g)) (F0 m 189 ls []) := by
          intro n_143
          induction n_143 using Nat.strongRecOn with
          | _ n_143 ih_189 =>
            intro x_140 hp_141 nx_142 H locs ls hw hl hH hz hS
            have hw := hB_189 n_143 x_140 hp_141 nx_142 hw
            refine lv_iload_n hx hb dX5_image_189 rfl (lv_at hl 1 rfl) ?_
            refine lv_bipush (v := (12 : Int32)) hx hb dX5_image_190 (by decide) ?_
            refine lv_icmp_ge (tgt := 220) hx hb dX5_image_192 (by decide) (fun hc => ?_) (fun hc => ?_)
            · have hw := hw.1 hc
              refine zr_aload_n (r := some h0) hx hb dX5_image_220 rfl (lv_at hl 0 rfl) ?_
              refine lv_iconst (v := (1 : Int32)) hx hb dX5_image_221 (by decide) ?_
              obtain ⟨a_144, ci_145, fs_146, hp_147, er, he, hc, hA, hkl, eh, hw⟩ := zpt_e hw
              refine zw_put hk hH hz hS er he hA hkl eh (fp_X5_563 hc) (z_nb (Or.inr rfl)) (z_fb (Or.inr rfl)) dX5_image_222 (fun H locs hH hz hS => ?_)
              refine zr_aload_n (r := some h0) hx hb dX5_image_225 rfl (lv_at hl 0 rfl) ?_
              obtain ⟨a_151, ci_152, fs_153, er, he, hc, hw⟩ := zo_e hw
              obtain rfl := List.mem_singleton.mp hc
              refine zr_calli (zw_runV (As := []) hk hH hz hS hl.1 er hw (cwV 0 hts (lw_V q3314 q3316 qs128 q162 q3317) rfl rfl rfl (by decide +kernel) (z_room (Nat.le_of_ble_eq_true rfl))) he rfl rfl rfl (Nat.le_of_ble_eq_true rfl) dX5_image_226 ⟨Nat.le_of_ble_eq_true rfl, Nat.le_of_ble_eq_true rfl⟩) hS (fun x_150 hp_148 nx_149 hw H locs hH hz hS => ?_)
              exact zr_iret hk hr hH hz hS hw (Nat.le_of_ble_eq_true rfl) (Nat.le_of_ble_eq_true rfl) dX5_image_229
            · have hw := hw.2 hc
              refine zr_aload_n (r := some h0) hx hb dX5_image_195 rfl (lv_at hl 0 rfl) ?_
              obtain ⟨a_154, ci_155, fs_156, r_157, er, he, hc, hv, hw⟩ := zgR_e hw
              refine zw_get hk hH er he hv (fk_X5_49 hc) dX5_image_196 ?_
              refine lv_iload_n hx hb dX5_image_199 rfl (lv_at hl 1 rfl) ?_
              obtain ⟨a_158, n_159, f_160, er, he, hi, hw⟩ := zaR_e hw
              have hw := hw _ rfl
              refine zw_aald hk hH 15 er he rfl rfl hi dX5_image_200 ?_
              generalize f_160 x_140.toNatClampNeg = r_161 at hw ⊢
              refine lv_iconst (v := (0 : Int32)) hx hb dX5_image_201 (by decide) ?_
              refine zr_aload_n (r := some h0) hx hb dX5_image_202 rfl (lv_at hl 0 rfl) ?_
              obtain ⟨a_162, ci_163, fs_164, r_165, er, he, hc, hv, hw⟩ := zgR_e hw
              refine zw_get hk hH er he hv (fk_X5_162 hc) dX5_image_203 ?_
              refine lv_iload_n hx hb dX5_image_206 rfl (lv_at hl 1 rfl) ?_
              obtain ⟨a_166, n_167, f_168, er, he, hi, hw⟩ := zaR_e hw
              have hw := hw _ rfl
              refine zw_aald hk hH 15 er he rfl rfl hi dX5_image_207 ?_
              generalize f_168 x_140.toNatClampNeg = r_169 at hw ⊢
              refine lv_iconst (v := (0 : Int32)) hx hb dX5_image_208 (by decide) ?_
              refine lv_bipush (v := (8 : Int32)) hx hb dX5_image_209 (by decide) ?_
              obtain ⟨a_170, n_172, f_174, er0, he0, hw⟩ := zaD_e hw
              obtain ⟨a_171, n_173, f_175, er1, he1, hA, h1, h2, h3, h4, h5, hft, hw⟩ := zaD_e hw
              obtain ⟨hp_176, eh⟩ : ∃ y : zHp, y = va_up hp_141 a_171 (some (.inl (g.2.1 1, n_173, .inr (.inr (.inr (.inl (va_cpy f_174 f_175 (0 : Int32).toNatClampNeg (0 : Int32).toNatClampNeg (8 : Int32).toNatClampNeg))))))) := ⟨_, rfl⟩
              have hw := hw hp_176 eh
              refine zw_copyD (r0 := r_161) (r1 := r_169) (ty := .double) hk hH hz hS hl.1 q3171 q432 q431 q145 1 er0 er1 he0 he1 rfl rfl hA h1 h2 h3 h4 h5 hft eh (Nat.le_add_left 1 d) (Nat.le_trans (Nat.le_of_ble_eq_true rfl : _ ≤ 64) (by show 64 ≤ 64 * (d + 1); omega)) dX5_image_211 (fun H locs hH hz hS => ?_)
              obtain ⟨x_177, ex_177⟩ : ∃ y : Int32, y = x_140 + (1 : Int32) := ⟨_, rfl⟩
              have hw := hw x_177 ex_177
              refine lv_iinc (v := x_177) (lv' := [(1, .int x_177), (0, va_rf (some h0))]) hx hb dX5_image_214 hl (k := 1) rfl (by rw [ex_177]; rfl) (by decide) (by first | rfl | simp [List.filter_cons, z_cat, z_catI, z_catJ, z_catF, z_catD]) (fun ls hl => ?_)
              refine lv_goto (tgt := 189) hx hb dX5_image_217 (by decide) ?_
              obtain ⟨k_178, hlt, hw⟩ := hw
              exact ih_189 k_178 hlt x_177 hp_176 nx_142 _ _ _ hw (lv_sub hl [1, 0] rfl) hH hz hS
        exact hL_189 n_179 (0 : Int32) hp_139 nx_63 _ _ _ hI (lv_sub hl [1, 0] rfl) hH hz hS
      · have hw := hw.2 hc
        refine zr_aload_n (r := some h0) hx hb dX5_image_68 rfl (lv_at hl 0 rfl) ?_
        obtain ⟨a_180, ci_181, fs_182, r_183, er, he, hc, hv, hw⟩ := zgR_e hw
        refine zw_get hk hH er he hv (fk_X5_26 hc) dX5_image_69 ?_
        refine lv_iload_n hx hb dX5_image_72 rfl (lv_at hl 1 rfl) ?_
        obtain ⟨a_184, n_185, f_186, er, he, hi, hw⟩ := zaR_e hw
        have hw := hw _ rfl
        refine zw_aald hk hH 14 er he rfl rfl hi dX5_image_73 ?_
        generalize f_186 x_61.toNatClampNeg = r_187 at hw ⊢
        refine lv_iconst (v := (0 : Int32)) hx hb dX5_image_74 (by decide) ?_
        refine zr_aload_n (r := some h0) hx hb dX5_image_75 rfl (lv_at hl 0 rfl) ?_
        obtain ⟨a_188, ci_189, fs_190, r_191, er, he, hc, hv, hw⟩ := zgR_e hw
        refine zw_get hk hH er he hv (fk_X5_144 hc) dX5_image_76 ?_
        refine lv_iload_n hx hb dX5_image_79 rfl (lv_at hl 1 rfl) ?_
        obtain ⟨a_192, n_193, f_194, er, he, hi, hw⟩ := zaR_e hw
        have hw := hw _ rfl
        refine zw_aald hk hH 14 er he rfl rfl hi dX5_image_80 ?_
        generalize f_194 x_61.toNatClampNeg = r_195 at hw ⊢
        refine lv_iconst (v := (0 : Int32)) hx hb dX5_image_81 (by decide) ?_
        refine lv_bipush (v := (96 : Int32)) hx hb dX5_image_82 (by decide) ?_
        obtain ⟨a_196, n_198, f_200, er0, he0, hw⟩ := zaI_e hw
        obtain ⟨a_197, n_199, f_201, er1, he1, hA, h1, h2, h3, h4, h5, hft, hw⟩ := zaI_e hw
        obtain ⟨hp_202, eh⟩ : ∃ y : zHp, y = va_up hp_62 a_197 (some (.inl (g.2.1 0, n_199, .inl (va_cpy f_200 f_201 (0 : Int32).toNatClampNeg (0 : Int32).toNatClampNeg (96 : Int32).toNatClampNeg)))) := ⟨_, rfl⟩
        have hw := hw hp_202 eh
        refine zw_copyI (r0 := r_187) (r1 := r_195) (ty := .int) hk hH hz hS hl.1 q3171 q432 q431 q145 0 er0 er1 he0 he1 rfl rfl hA h1 h2 h3 h4 h5 hft eh (Nat.le_add_left 1 d) (Nat.le_trans (Nat.le_of_ble_eq_true rfl : _ ≤ 64) (by show 64 ≤ 64 * (d + 1); omega)) dX5_image_84 (fun H locs hH hz hS => ?_)
        refine zr_aload_n (r := some h0) hx hb dX5_image_87 rfl (lv_at hl 0 rfl) ?_
        obtain ⟨a_203, ci_204, fs_205, r_206, er, he, hc, hv, hw⟩ := zgR_e hw
        refine zw_get hk hH er he hv (fk_X5_31 hc) dX5_image_88 ?_
        refine lv_iload_n hx hb dX5_image_91 rfl (lv_at hl 1 rfl) ?_
        obtain ⟨a_207, n_208, f_209, er, he, hi, hw⟩ := zaR_e hw
        have hw := hw _ rfl
        refine zw_aald hk hH 15 er he rfl rfl hi dX5_image_92 ?_
        generalize f_209 x_61.toNatClampNeg = r_210 at hw ⊢
        refine lv_iconst (v := (0 : Int32)) hx hb dX5_image_93 (by decide) ?_
        refine zr_aload_n (r := some h0) hx hb dX5_image_94 rfl (lv_at hl 0 rfl) ?_
        obtain ⟨a_211, ci_212, fs_213, r_214, er, he, hc, hv, hw⟩ := zgR_e hw
        refine zw_get hk hH er he hv (fk_X5_147 hc) dX5_image_95 ?_
        refine lv_iload_n hx hb dX5_image_98 rfl (lv_at hl 1 rfl) ?_
        obtain ⟨a_215, n_216, f_217, er, he, hi, hw⟩ := zaR_e hw
        have hw := hw _ rfl
        refine zw_aald hk hH 15 er he rfl rfl hi dX5_image_99 ?_
        generalize f_217 x_61.toNatClampNeg = r_218 at hw ⊢
        refine lv_iconst (v := (0 : Int32)) hx hb dX5_image_100 (by decide) ?_
        refine lv_bipush (v := (96 : Int32)) hx hb dX5_image_101 (by decide) ?_
        obtain ⟨a_219, n_221, f_223, er0, he0, hw⟩ := zaD_e hw
        obtain ⟨a_220, n_222, f_224, er1, he1, hA, h1, h2, h3, h4, h5, hft, hw⟩ := zaD_e hw
        obtain ⟨hp_225, eh⟩ : ∃ y : zHp, y = va_up hp_202 a_220 (some (.inl (g.2.1 1, n_222, .inr (.inr (.inr (.inl (va_cpy f_223 f_224 (0 : Int32).toNatClampNeg (0 : Int32).toNatClampNeg (96 : Int32).toNatClampNeg))))))) := ⟨_, rfl⟩
        have hw := hw hp_225 eh
        refine zw_copyD (r0 := r_210) (r1 := r_218) (ty := .double) hk hH hz hS hl.1 q3171 q432 q431 q145 1 er0 er1 he0 he1 rfl rfl hA h1 h2 h3 h4 h5 hft eh (Nat.le_add_left 1 d) (Nat.le_trans (Nat.le_of_ble_eq_true rfl : _ ≤ 64) (by show 64 ≤ 64 * (d + 1); omega)) dX5_image_103 (fun H locs hH hz hS => ?_)
        obtain ⟨x_226, ex_226⟩ : ∃ y : Int32, y = x_61 + (1 : Int32) := ⟨_, rfl⟩
        have hw := hw x_226 ex_226
        refine lv_iinc (v := x_226) (lv' := [(1, .int x_226), (0, va_rf (some h0))]) hx hb dX5_image_106 hl (k := 1) rfl (by rw [ex_226]; rfl) (by decide) (by first | rfl | simp [List.filter_cons, z_cat, z_catI, z_catJ, z_catF, z_catD]) (fun ls hl => ?_)
        refine lv_goto (tgt := 62) hx hb dX5_image_109 (by decide) ?_
        obtain ⟨k_227, hlt, hw⟩ := hw
        exact ih_62 k_227 hlt x_226 hp_225 nx_63 _ _ _ hw (lv_sub hl [1, 0] rfl) hH hz hS
  exact hL_62 n_228 (0 : Int32) hp_60 nx _ _ _ hI (lv_sub hl [1, 0] rfl) hH hz hS
def wp_X5_formulas (l : Launch) (g : zG) (d : Nat) (h0 : Nat) (hp : zHp) (nx : Nat) (Post : Int32 → zHp → Nat → Prop) : Prop :=
  (∃ I_4 : Nat → Int32 → Int32 → zHp → Nat → Prop, (∃ n_19, I_4 n_19 (0 : Int32) (0 : Int32) hp nx) ∧ ∀ (n_5 : Nat) (x_1 : Int32) (x_2 : Int32) (hp_3 : zHp) (nx_4 : Nat), I_4 n_5 x_1 x_2 hp_3 nx_4 →
  (((24 : Int32) ≤ x_2 →
  (Post x_1 hp_3 nx_4)) ∧
  (¬ (24 : Int32) ≤ x_2 →
  (zo hp_3 (some h0) [5] fun a_16 ci_17 fs_18 => zMt l g yX5_isInput cX5_isInput 2 (some .boolean) d 0 0 (.ref a_16 :: [.int x_2]) hp_3 nx_4 (zQi g fun x_8 hp_6 nx_7 =>
  (∃ P_21 : Int32 → Int32 → zHp → Nat → Prop, (∀ (x_9 : Int32) (x_10 : Int32) (hp_11 : zHp) (nx_12 : Nat), P_21 x_9 x_10 hp_11 nx_12 →
  (∀ x_13 : Int32, x_13 = x_10 + (1 : Int32) →
  (∃ k_14, k_14 < n_5 ∧ I_4 k_14 x_9 x_13 hp_11 nx_12))) ∧
  ((x_8 = 0 →
  (∀ x_15 : Int32, x_15 = x_1 + (1 : Int32) →
  P_21 x_15 x_2 hp_6 nx_7)) ∧
  (¬ x_8 = 0 →
  P_21 x_1 x_2 hp_6 nx_7))))))))
set_option maxHeartbeats 40000000 in
theorem met_X5_formulas {l : Launch} {g : zG} {d : Nat} {h0 : Nat} {hp : zHp} {nx : Nat} {Post : Int32 → zHp → Nat → Prop} (hw : wp_X5_formulas l g d h0 hp nx Post) : zMt l g yX5_formulas cX5_formulas 3 (some .int) (d + 1) 0 0 [.ref h0] hp nx (zQi g Post) := by
  refine z_start (by decide) (Nat.le_of_ble_eq_true rfl) ?_
  intro p e s m below meth c hk hr hin hH hz ls hl
  have hx := hk.1.1
  have hb := hk.1.2.1
  have hown := hk.1.2.2.2.1
  have hts := hk.1.2.2.2.2
  have hS : va_S (zAd g) s.heap s.heap [] := va_S.rf
  have hl : lv_has ls 3 [(0, va_rf (some h0))] := hl
  unfold wp_X5_formulas at hw
  refine lv_iconst (v := (0 : Int32)) hx hb dX5_formulas_0 (by decide) ?_
  refine lv_istore_n (i := 1) (lv' := [(1, .int (0 : Int32)), (0, va_rf (some h0))]) hx hb dX5_formulas_1 rfl hl (by decide) (by first | rfl | simp [List.filter_cons, z_cat, z_catI, z_catJ, z_catF, z_catD]) (fun ls hl => ?_)
  refine lv_iconst (v := (0 : Int32)) hx hb dX5_formulas_2 (by decide) ?_
  refine lv_istore_n (i := 2) (lv' := [(2, .int (0 : Int32)), (1, .int (0 : Int32)), (0, va_rf (some h0))]) hx hb dX5_formulas_3 rfl hl (by decide) (by first | rfl | simp [List.filter_cons, z_cat, z_catI, z_catJ, z_catF, z_catD]) (fun ls hl => ?_)
  obtain ⟨I_4, ⟨n_19, hI⟩, hB_4⟩ := hw
  have hL_4 : ∀ (n_5 : Nat) (x_1 : Int32) (x_2 : Int32) (hp_3 : zHp) (nx_4 : Nat) (H : Heap) (locs : List Loc) (ls : Array Slot), I_4 n_5 x_1 x_2 hp_3 nx_4 → lv_has ls 3 [(0, va_rf (some h0)), (1, .int x_1), (2, .int x_2)] → zHd g hp_3 H → H.size = nx_4 → va_S (zAd g) s.heap H locs → W p l e (zrm (d + 1) 0 0) s m ([.ref h0] : List Value).toArray below meth c H locs 0 0 (MQ below (zQi g Post) ([.ref h0] : List Value).toArray s 0 0 (zAd g)) (F0 m 4 ls []) := by
    intro n_5
    induction n_5 using Nat.strongRecOn with
    | _ n_5 ih_4 =>
      intro x_1 x_2 hp_3 nx_4 H locs ls hw hl hH hz hS
      have hw := hB_4 n_5 x_1 x_2 hp_3 nx_4 hw
      refine lv_iload_n hx hb dX5_formulas_4 rfl (lv_at hl 2 rfl) ?_
      refine lv_bipush (v := (24 : Int32)) hx hb dX5_formulas_5 (by decide) ?_
      refine lv_icmp_ge (tgt := 27) hx hb dX5_formulas_7 (by decide) (fun hc => ?_) (fun hc => ?_)
      · have hw := hw.1 hc
        refine lv_iload_n hx hb dX5_formulas_27 rfl (lv_at hl 1 rfl) ?_
        exact zr_iret hk hr hH hz hS hw (Nat.le_of_ble_eq_true rfl) (Nat.le_of_ble_eq_true rfl) dX5_formulas_28
      · have hw := hw.2 hc
        refine zr_aload_n (r := some h0) hx hb dX5_formulas_10 rfl (lv_at hl 0 rfl) ?_
        refine lv_iload_n hx hb dX5_formulas_11 rfl (lv_at hl 2 rfl) ?_
        obtain ⟨a_16, ci_17, fs_18, er, he, hc, hw⟩ := zo_e hw
        obtain rfl := List.mem_singleton.mp hc
        refine zr_calli (zw_runV (As := [.int x_2]) hk hH hz hS hl.1 er hw (cwV 1 hts (lw_V q2919 q2921 qs69 q162 q2922) rfl rfl rfl (by decide +kernel) (z_room (Nat.le_of_ble_eq_true rfl))) he rfl rfl rfl (Nat.le_of_ble_eq_true rfl) dX5_formulas_12 ⟨Nat.le_of_ble_eq_true rfl, Nat.le_of_ble_eq_true rfl⟩) hS (fun x_8 hp_6 nx_7 hw H locs hH hz hS => ?_)
        obtain ⟨P_21, hP_21, hw⟩ := hw
        have hJ_21 : ∀ (x_9 : Int32) (x_10 : Int32) (hp_11 : zHp) (nx_12 : Nat) (H : Heap) (locs : List Loc) (ls : Array Slot), P_21 x_9 x_10 hp_11 nx_12 → lv_has ls 3 [(0, va_rf (some h0)), (1, .int x_9), (2, .int x_10)] → zHd g hp_11 H → H.size = nx_12 → va_S (zAd g) s.heap H locs → W p l e (zrm (d + 1) 0 0) s m ([.ref h0] : List Value).toArray below meth c H locs 0 0 (MQ below (zQi g Post) ([.ref h0] : List Value).toArray s 0 0 (zAd g)) (F0 m 21 ls []) := by
          intro x_9 x_10 hp_11 nx_12 H locs ls hw hl hH hz hS
          have hw := hP_21 x_9 x_10 hp_11 nx_12 hw
          obtain ⟨x_13, ex_13⟩ : ∃ y : Int32, y = x_10 + (1 : Int32) := ⟨_, rfl⟩
          have hw := hw x_13 ex_13
          refine lv_iinc (v := x_13) (lv' := [(2, .int x_13), (0, va_rf (some h0)), (1, .int x_9)]) hx hb dX5_formulas_21 hl (k := 2) rfl (by rw [ex_13]; rfl) (by decide) (by first | rfl | simp [List.filter_cons, z_cat, z_catI, z_catJ, z_catF, z_catD]) (fun ls hl => ?_)
          refine lv_goto (tgt := 4) hx hb dX5_formulas_24 (by decide) ?_
          obtain ⟨k_14, hlt, hw⟩ := hw
          exact ih_4 k_14 hlt x_9 x_13 hp_11 nx_12 _ _ _ hw (lv_sub hl [1, 2, 0] rfl) hH hz hS
        refine lv_if_ne (tgt := 21) hx hb dX5_formulas_15 (by decide) (fun hc => ?_) (fun hc => ?_)
        · have hw := hw.2 hc
          exact hJ_21 x_1 x_2 hp_6 nx_7 _ _ _ hw hl hH hz hS
        · have hw := hw.1 hc
          obtain ⟨x_15, ex_15⟩ : ∃ y : Int32, y = x_1 + (1 : Int32) := ⟨_, rfl⟩
          have hw := hw x_15 ex_15
          refine lv_iinc (v := x_15) (lv' := [(1, .int x_15), (0, va_rf (some h0)), (2, .int x_2)]) hx hb dX5_formulas_18 hl (k := 1) rfl (by rw [ex_15]; rfl) (by decide) (by first | rfl | simp [List.filter_cons, z_cat, z_catI, z_catJ, z_catF, z_catD]) (fun ls hl => ?_)
          exact hJ_21 x_15 x_2 hp_6 nx_7 _ _ _ hw (lv_sub hl [1, 0, 2] rfl) hH hz hS
  exact hL_4 n_19 (0 : Int32) (0 : Int32) hp nx _ _ _ hI (lv_sub hl [2, 1, 0] rfl) hH hz hS
theorem fk_X5_563 {ci : Nat} (h : ci ∈ [5]) : zFk "WhatIfSheetModel" 563 ci 57 := by
  simp only [List.mem_cons, List.not_mem_nil, or_false] at h
  rcases h with rfl
  · exact ⟨RX5, TX5, 76, rfl, by decide, q2731⟩
def wp_X5_back (l : Launch) (g : zG) (d : Nat) (h0 : Nat) (hp : zHp) (nx : Nat) (Post : Int32 → zHp → Nat → Prop) : Prop :=
  (zgI hp (some h0) [5] 57 fun x_4 =>
  ((x_4 = 0 →
  (Post (-3 : Int32) hp nx)) ∧
  (¬ x_4 = 0 →
  (zgR hp (some h0) [5] 58 fun r_8 =>
  (zgR hp (some h0) [5] 0 fun r_12 =>
  (zaI (g.2.1 0) hp r_8 fun a_13 n_15 f_17 => zaI (g.2.1 0) hp r_12 fun a_14 n_16 f_18 => zB g ≤ a_14 ∧ ¬ (0 : Int32) < 0 ∧ ¬ (0 : Int32) < 0 ∧ ¬ (24 : Int32) < 0 ∧ (0 : Int32).toNatClampNeg + (24 : Int32).toNatClampNeg ≤ n_15 ∧ (0 : Int32).toNatClampNeg + (24 : Int32).toNatClampNeg ≤ n_16 ∧ (∀ i, i < (24 : Int32).toNatClampNeg → fits .int (.int (f_17 ((0 : Int32).toNatClampNeg + i))) = true) ∧ ∀ hp_19 : zHp, hp_19 = va_up hp a_14 (some (.inl (g.2.1 0, n_16, .inl (va_cpy f_17 f_18 (0 : Int32).toNatClampNeg (0 : Int32).toNatClampNeg (24 : Int32).toNatClampNeg)))) →
  (zgR hp_19 (some h0) [5] 59 fun r_23 =>
  (zgR hp_19 (some h0) [5] 3 fun r_27 =>
  (zaI (g.2.1 0) hp_19 r_23 fun a_28 n_30 f_32 => zaI (g.2.1 0) hp_19 r_27 fun a_29 n_31 f_33 => zB g ≤ a_29 ∧ ¬ (0 : Int32) < 0 ∧ ¬ (0 : Int32) < 0 ∧ ¬ (24 : Int32) < 0 ∧ (0 : Int32).toNatClampNeg + (24 : Int32).toNatClampNeg ≤ n_30 ∧ (0 : Int32).toNatClampNeg + (24 : Int32).toNatClampNeg ≤ n_31 ∧ (∀ i, i < (24 : Int32).toNatClampNeg → fits .int (.int (f_32 ((0 : Int32).toNatClampNeg + i))) = true) ∧ ∀ hp_34 : zHp, hp_34 = va_up hp_19 a_29 (some (.inl (g.2.1 0, n_31, .inl (va_cpy f_32 f_33 (0 : Int32).toNatClampNeg (0 : Int32).toNatClampNeg (24 : Int32).toNatClampNeg)))) →
  (zgR hp_34 (some h0) [5] 60 fun r_38 =>
  (zgR hp_34 (some h0) [5] 1 fun r_42 =>
  (zaI (g.2.1 3) hp_34 r_38 fun a_43 n_45 f_47 => zaI (g.2.1 3) hp_34 r_42 fun a_44 n_46 f_48 => zB g ≤ a_44 ∧ ¬ (0 : Int32) < 0 ∧ ¬ (0 : Int32) < 0 ∧ ¬ (24 : Int32) < 0 ∧ (0 : Int32).toNatClampNeg + (24 : Int32).toNatClampNeg ≤ n_45 ∧ (0 : Int32).toNatClampNeg + (24 : Int32).toNatClampNeg ≤ n_46 ∧ (∀ i, i < (24 : Int32).toNatClampNeg → fits .boolean (.int (f_47 ((0 : Int32).toNatClampNeg + i))) = true) ∧ ∀ hp_49 : zHp, hp_49 = va_up hp_34 a_44 (some (.inl (g.2.1 3, n_46, .inl (va_cpy f_47 f_48 (0 : Int32).toNatClampNeg (0 : Int32).toNatClampNeg (24 : Int32).toNatClampNeg)))) →
  (zgR hp_49 (some h0) [5] 62 fun r_53 =>
  (zgR hp_49 (some h0) [5] 2 fun r_57 =>
  (zaD (g.2.1 1) hp_49 r_53 fun a_58 n_60 f_62 => zaD (g.2.1 1) hp_49 r_57 fun a_59 n_61 f_63 => zB g ≤ a_59 ∧ ¬ (0 : Int32) < 0 ∧ ¬ (0 : Int32) < 0 ∧ ¬ (24 : Int32) < 0 ∧ (0 : Int32).toNatClampNeg + (24 : Int32).toNatClampNeg ≤ n_60 ∧ (0 : Int32).toNatClampNeg + (24 : Int32).toNatClampNeg ≤ n_61 ∧ (∀ i, i < (24 : Int32).toNatClampNeg → fits .double (.double (f_62 ((0 : Int32).toNatClampNeg + i))) = true) ∧ ∀ hp_64 : zHp, hp_64 = va_up hp_49 a_59 (some (.inl (g.2.1 1, n_61, .inr (.inr (.inr (.inl (va_cpy f_62 f_63 (0 : Int32).toNatClampNeg (0 : Int32).toNatClampNeg (24 : Int32).toNatClampNeg))))))) →
  (∃ I_72 : Nat → Int32 → zHp → Nat → Prop, (∃ n_233, I_72 n_233 (0 : Int32) hp_64 nx) ∧ ∀ (n_68 : Nat) (x_65 : Int32) (hp_66 : zHp) (nx_67 : Nat), I_72 n_68 x_65 hp_66 nx_67 →
  (((24 : Int32) ≤ x_65 →
  (zgR hp_66 (some h0) [5] 61 fun r_72 =>
  (zgR hp_66 (some h0) [5] 6 fun r_76 =>
  (zaI (g.2.1 3) hp_66 r_72 fun a_77 n_79 f_81 => zaI (g.2.1 3) hp_66 r_76 fun a_78 n_80 f_82 => zB g ≤ a_78 ∧ ¬ (0 : Int32) < 0 ∧ ¬ (0 : Int32) < 0 ∧ ¬ (6 : Int32) < 0 ∧ (0 : Int32).toNatClampNeg + (6 : Int32).toNatClampNeg ≤ n_79 ∧ (0 : Int32).toNatClampNeg + (6 : Int32).toNatClampNeg ≤ n_80 ∧ (∀ i, i < (6 : Int32).toNatClampNeg → fits .boolean (.int (f_81 ((0 : Int32).toNatClampNeg + i))) = true) ∧ ∀ hp_83 : zHp, hp_83 = va_up hp_66 a_78 (some (.inl (g.2.1 3, n_80, .inl (va_cpy f_81 f_82 (0 : Int32).toNatClampNeg (0 : Int32).toNatClampNeg (6 : Int32).toNatClampNeg)))) →
  (zgR hp_83 (some h0) [5] 65 fun r_87 =>
  (zgR hp_83 (some h0) [5] 7 fun r_91 =>
  (zaI (g.2.1 0) hp_83 r_87 fun a_92 n_94 f_96 => zaI (g.2.1 0) hp_83 r_91 fun a_93 n_95 f_97 => zB g ≤ a_93 ∧ ¬ (0 : Int32) < 0 ∧ ¬ (0 : Int32) < 0 ∧ ¬ (6 : Int32) < 0 ∧ (0 : Int32).toNatClampNeg + (6 : Int32).toNatClampNeg ≤ n_94 ∧ (0 : Int32).toNatClampNeg + (6 : Int32).toNatClampNeg ≤ n_95 ∧ (∀ i, i < (6 : Int32).toNatClampNeg → fits .int (.int (f_96 ((0 : Int32).toNatClampNeg + i))) = true) ∧ ∀ hp_98 : zHp, hp_98 = va_up hp_83 a_93 (some (.inl (g.2.1 0, n_95, .inl (va_cpy f_96 f_97 (0 : Int32).toNatClampNeg (0 : Int32).toNatClampNeg (6 : Int32).toNatClampNeg)))) →
  (zgR hp_98 (some h0) [5] 66 fun r_102 =>
  (zgR hp_98 (some h0) [5] 8 fun r_106 =>
  (zaI (g.2.1 0) hp_98 r_102 fun a_107 n_109 f_111 => zaI (g.2.1 0) hp_98 r_106 fun a_108 n_110 f_112 => zB g ≤ a_108 ∧ ¬ (0 : Int32) < 0 ∧ ¬ (0 : Int32) < 0 ∧ ¬ (6 : Int32) < 0 ∧ (0 : Int32).toNatClampNeg + (6 : Int32).toNatClampNeg ≤ n_109 ∧ (0 : Int32).toNatClampNeg + (6 : Int32).toNatClampNeg ≤ n_110 ∧ (∀ i, i < (6 : Int32).toNatClampNeg → fits .int (.int (f_111 ((0 : Int32).toNatClampNeg + i))) = true) ∧ ∀ hp_113 : zHp, hp_113 = va_up hp_98 a_108 (some (.inl (g.2.1 0, n_110, .inl (va_cpy f_111 f_112 (0 : Int32).toNatClampNeg (0 : Int32).toNatClampNeg (6 : Int32).toNatClampNeg)))) →
  (zgR hp_113 (some h0) [5] 67 fun r_117 =>
  (zgR hp_113 (some h0) [5] 9 fun r_121 =>
  (zaI (g.2.1 0) hp_113 r_117 fun a_122 n_124 f_126 => zaI (g.2.1 0) hp_113 r_121 fun a_123 n_125 f_127 => zB g ≤ a_123 ∧ ¬ (0 : Int32) < 0 ∧ ¬ (0 : Int32) < 0 ∧ ¬ (6 : Int32) < 0 ∧ (0 : Int32).toNatClampNeg + (6 : Int32).toNatClampNeg ≤ n_124 ∧ (0 : Int32).toNatClampNeg + (6 : Int32).toNatClampNeg ≤ n_125 ∧ (∀ i, i < (6 : Int32).toNatClampNeg → fits .int (.int (f_126 ((0 : Int32).toNatClampNeg + i))) = true) ∧ ∀ hp_128 : zHp, hp_128 = va_up hp_113 a_123 (some (.inl (g.2.1 0, n_125, .inl (va_cpy f_126 f_127 (0 : Int32).toNatClampNeg (0 : Int32).toNatClampNeg (6 : Int32).toNatClampNeg)))) →
  (zgR hp_128 (some h0) [5] 68 fun r_132 =>
  (zgR hp_128 (some h0) [5] 10 fun r_136 =>
  (zaI (g.2.1 0) hp_128 r_132 fun a_137 n_139 f_141 => zaI (g.2.1 0) hp_128 r_136 fun a_138 n_140 f_142 => zB g ≤ a_138 ∧ ¬ (0 : Int32) < 0 ∧ ¬ (0 : Int32) < 0 ∧ ¬ (12 : Int32) < 0 ∧ (0 : Int32).toNatClampNeg + (12 : Int32).toNatClampNeg ≤ n_139 ∧ (0 : Int32).toNatClampNeg + (12 : Int32).toNatClampNeg ≤ n_140 ∧ (∀ i, i < (12 : Int32).toNatClampNeg → fits .int (.int (f_141 ((0 : Int32).toNatClampNeg + i))) = true) ∧ ∀ hp_143 : zHp, hp_143 = va_up hp_128 a_138 (some (.inl (g.2.1 0, n_140, .inl (va_cpy f_141 f_142 (0 : Int32).toNatClampNeg (0 : Int32).toNatClampNeg (12 : Int32).toNatClampNeg)))) →
  (∃ I_204 : Nat → Int32 → zHp → Nat → Prop, (∃ n_179, I_204 n_179 (0 : Int32) hp_143 nx_67) ∧ ∀ (n_147 : Nat) (x_144 : Int32) (hp_145 : zHp) (nx_146 : Nat), I_204 n_147 x_144 hp_145 nx_146 →
  (((12 : Int32) ≤ x_144 →
  (zo hp_145 (some h0) [5] fun a_151 ci_152 fs_153 => zMt l g yX5_formulas cX5_formulas 3 (some .int) d 0 0 (.ref a_151 :: []) hp_145 nx_146 (zQi g fun x_150 hp_148 nx_149 =>
  (Post x_150 hp_148 nx_149)))) ∧
  (¬ (12 : Int32) ≤ x_144 →
  (zgR hp_145 (some h0) [5] 69 fun r_157 =>
  (zaR (g.2.1 15) hp_145 r_157 fun a_158 n_159 f_160 => vp_in x_144 n_159 ∧ ∀ r_161 : Option Nat, r_161 = f_160 x_144.toNatClampNeg →
  (zgR hp_145 (some h0) [5] 11 fun r_165 =>
  (zaR (g.2.1 15) hp_145 r_165 fun a_166 n_167 f_168 => vp_in x_144 n_167 ∧ ∀ r_169 : Option Nat, r_169 = f_168 x_144.toNatClampNeg →
  (zaD (g.2.1 1) hp_145 r_161 fun a_170 n_172 f_174 => zaD (g.2.1 1) hp_145 r_169 fun a_171 n_173 f_175 => zB g ≤ a_171 ∧ ¬ (0 : Int32) < 0 ∧ ¬ (0 : Int32) < 0 ∧ ¬ (8 : Int32) < 0 ∧ (0 : Int32).toNatClampNeg + (8 : Int32).toNatClampNeg ≤ n_172 ∧ (0 : Int32).toNatClampNeg + (8 : Int32).toNatClampNeg ≤ n_173 ∧ (∀ i, i < (8 : Int32).toNatClampNeg → fits .double (.double (f_174 ((0 : Int32).toNatClampNeg + i))) = true) ∧ ∀ hp_176 : zHp, hp_176 = va_up hp_145 a_171 (some (.inl (g.2.1 1, n_173, .inr (.inr (.inr (.inl (va_cpy f_174 f_175 (0 : Int32).toNatClampNeg (0 : Int32).toNatClampNeg (8 : Int32).toNatClampNeg))))))) →
  (∀ x_177 : Int32, x_177 = x_144 + (1 : Int32) →
  (∃ k_178, k_178 < n_147 ∧ I_204 k_178 x_177 hp_176 nx_146)))))))))))))))))))))))))) ∧
  (¬ (24 : Int32) ≤ x_65 →
  (zgR hp_66 (some h0) [5] 63 fun r_183 =>
  (zaR (g.2.1 14) hp_66 r_183 fun a_184 n_185 f_186 => vp_in x_65 n_185 ∧ ∀ r_187 : Option Nat, r_187 = f_186 x_65.toNatClampNeg →
  (zgR hp_66 (some h0) [5] 4 fun r_191 =>
  (zaR (g.2.1 14) hp_66 r_191 fun a_192 n_193 f_194 => vp_in x_65 n_193 ∧ ∀ r_195 : Option Nat, r_195 = f_194 x_65.toNatClampNeg →
  (zaI (g.2.1 0) hp_66 r_187 fun a_196 n_198 f_200 => zaI (g.2.1 0) hp_66 r_195 fun a_197 n_199 f_201 => zB g ≤ a_197 ∧ ¬ (0 : Int32) < 0 ∧ ¬ (0 : Int32) < 0 ∧ ¬ (96 : Int32) < 0 ∧ (0 : Int32).toNatClampNeg + (96 : Int32).toNatClampNeg ≤ n_198 ∧ (0 : Int32).toNatClampNeg + (96 : Int32).toNatClampNeg ≤ n_199 ∧ (∀ i, i < (96 : Int32).toNatClampNeg → fits .int (.int (f_200 ((0 : Int32).toNatClampNeg + i))) = true) ∧ ∀ hp_202 : zHp, hp_202 = va_up hp_66 a_197 (some (.inl (g.2.1 0, n_199, .inl (va_cpy f_200 f_201 (0 : Int32).toNatClampNeg (0 : Int32).toNatClampNeg (96 : Int32).toNatClampNeg)))) →
  (zgR hp_202 (some h0) [5] 64 fun r_206 =>
  (zaR (g.2.1 15) hp_202 r_206 fun a_207 n_208 f_209 => vp_in x_65 n_208 ∧ ∀ r_210 : Option Nat, r_210 = f_209 x_65.toNatClampNeg →
  (zgR hp_202 (some h0) [5] 5 fun r_214 =>
  (zaR (g.2.1 15) hp_202 r_214 fun a_215 n_216 f_217 => vp_in x_65 n_216 ∧ ∀ r_218 : Option Nat, r_218 = f_217 x_65.toNatClampNeg →
  (zaD (g.2.1 1) hp_202 r_210 fun a_219 n_221 f_223 => zaD (g.2.1 1) hp_202 r_218 fun a_220 n_222 f_224 => zB g ≤ a_220 ∧ ¬ (0 : Int32) < 0 ∧ ¬ (0 : Int32) < 0 ∧ ¬ (96 : Int32) < 0 ∧ (0 : Int32).toNatClampNeg + (96 : Int32).toNatClampNeg ≤ n_221 ∧ (0 : Int32).toNatClampNeg + (96 : Int32).toNatClampNeg ≤ n_222 ∧ (∀ i, i < (96 : Int32).toNatClampNeg → fits .double (.double (f_223 ((0 : Int32).toNatClampNeg + i))) = true) ∧ ∀ hp_225 : zHp, hp_225 = va_up hp_202 a_220 (some (.inl (g.2.1 1, n_222, .inr (.inr (.inr (.inl (va_cpy f_223 f_224 (0 : Int32).toNatClampNeg (0 : Int32).toNatClampNeg (96 : Int32).toNatClampNeg))))))) →
  (zo hp_225 (some h0) [5] fun a_230 ci_231 fs_232 => zMt l g yX5_tellNames cX5_tellNames 3 none d 0 0 (.ref a_230 :: [.int x_65]) hp_225 nx_67 (zQv g fun hp_226 nx_227 =>
  (∀ x_228 : Int32, x_228 = x_65 + (1 : Int32) →
  (∃ k_229, k_229 < n_68 ∧ I_72 k_229 x_228 hp_226 nx_227))))))))))))))))))))))))))))))))
set_option maxHeartbeats 40000000 in
theorem met_X5_back {l : Launch} {g : zG} {d : Nat} {h0 : Nat} {hp : zHp} {nx : Nat} {Post : Int32 → zHp → Nat → Prop} (hw : wp_X5_back l g d h0 hp nx Post) : zMt l g yX5_back cX5_back 2 (some .int) (d + 1) 0 0 [.ref h0] hp nx (zQi g Post) := by
  refine z_start (by decide) (Nat.le_of_ble_eq_true rfl) ?_
  intro p e s m below meth c hk hr hin hH hz ls hl
  have hx := hk.1.1
  have hb := hk.1.2.1
  have hown := hk.1.2.2.2.1
  have hts := hk.1.2.2.2.2
  have hS : va_S (zAd g) s.heap s.heap [] := va_S.rf
  have hl : lv_has ls 2 [(0, va_rf (some h0))] := hl
  unfold wp_X5_back at hw
  refine zr_aload_n (r := some h0) hx hb dX5_back_0 rfl (lv_at hl 0 rfl) ?_
  obtain ⟨a_1, ci_2, fs_3, x_4, er, he, hc, hv, hw⟩ := zgI_e hw
  refine zw_get hk hH er he hv (fk_X5_563 hc) dX5_back_1 ?_
  refine lv_if_ne (tgt := 10) hx hb dX5_back_4 (by decide) (fun hc => ?_) (fun hc => ?_)
  · have hw := hw.2 hc
    refine zr_aload_n (r := some h0) hx hb dX5_back_10 rfl (lv_at hl 0 rfl) ?_
    obtain ⟨a_5, ci_6, fs_7, r_8, er, he, hc, hv, hw⟩ := zgR_e hw
    refine zw_get hk hH er he hv (fk_X5_129 hc) dX5_back_11 ?_
    refine lv_iconst (v := (0 : Int32)) hx hb dX5_back_14 (by decide) ?_
    refine zr_aload_n (r := some h0) hx hb dX5_back_15 rfl (lv_at hl 0 rfl) ?_
    obtain ⟨a_9, ci_10, fs_11, r_12, er, he, hc, hv, hw⟩ := zgR_e hw
    refine zw_get hk hH er he hv (fk_X5_9 hc) dX5_back_16 ?_
    refine lv_iconst (v := (0 : Int32)) hx hb dX5_back_19 (by decide) ?_
    refine lv_bipush (v := (24 : Int32)) hx hb dX5_back_20 (by decide) ?_
    obtain ⟨a_13, n_15, f_17, er0, he0, hw⟩ := zaI_e hw
    obtain ⟨a_14, n_16, f_18, er1, he1, hA, h1, h2, h3, h4, h5, hft, hw⟩ := zaI_e hw
    obtain ⟨hp_19, eh⟩ : ∃ y : zHp, y = va_up hp a_14 (some (.inl (g.2.1 0, n_16, .inl (va_cpy f_17 f_18 (0 : Int32).toNatClampNeg (0 : Int32).toNatClampNeg (24 : Int32).toNatClampNeg)))) := ⟨_, rfl⟩
    have hw := hw hp_19 eh
    refine zw_copyI (r0 := r_8) (r1 := r_12) (ty := .int) hk hH hz hS hl.1 q3171 q432 q431 q145 0 er0 er1 he0 he1 rfl rfl hA h1 h2 h3 h4 h5 hft eh (Nat.le_add_left 1 d) (Nat.le_trans (Nat.le_of_ble_eq_true rfl : _ ≤ 64) (by show 64 ≤ 64 * (d + 1); omega)) dX5_back_22 (fun H locs hH hz hS => ?_)
    refine zr_aload_n (r := some h0) hx hb dX5_back_25 rfl (lv_at hl 0 rfl) ?_
    obtain ⟨a_20, ci_21, fs_22, r_23, er, he, hc, hv, hw⟩ := zgR_e hw
    refine zw_get hk hH er he hv (fk_X5_132 hc) dX5_back_26 ?_
    refine lv_iconst (v := (0 : Int32)) hx hb dX5_back_29 (by decide) ?_
    refine zr_aload_n (r := some h0) hx hb dX5_back_30 rfl (lv_at hl 0 rfl) ?_
    obtain ⟨a_24, ci_25, fs_26, r_27, er, he, hc, hv, hw⟩ := zgR_e hw
    refine zw_get hk hH er he hv (fk_X5_21 hc) dX5_back_31 ?_
    refine lv_iconst (v := (0 : Int32)) hx hb dX5_back_34 (by decide) ?_
    refine lv_bipush (v := (24 : Int32)) hx hb dX5_back_35 (by decide) ?_
    obtain ⟨a_28, n_30, f_32, er0, he0, hw⟩ := zaI_e hw
    obtain ⟨a_29, n_31, f_33, er1, he1, hA, h1, h2, h3, h4, h5, hft, hw⟩ := zaI_e hw
    obtain ⟨hp_34, eh⟩ : ∃ y : zHp, y = va_up hp_19 a_29 (some (.inl (g.2.1 0, n_31, .inl (va_cpy f_32 f_33 (0 : Int32).toNatClampNeg (0 : Int32).toNatClampNeg (24 : Int32).toNatClampNeg)))) := ⟨_, rfl⟩
    have hw := hw hp_34 eh
    refine zw_copyI (r0 := r_23) (r1 := r_27) (ty := .int) hk hH hz hS hl.1 q3171 q432 q431 q145 0 er0 er1 he0 he1 rfl rfl hA h1 h2 h3 h4 h5 hft eh (Nat.le_add_left 1 d) (Nat.le_trans (Nat.le_of_ble_eq_true rfl : _ ≤ 64) (by show 64 ≤ 64 * (d + 1); omega)) dX5_back_37 (fun H locs hH hz hS => ?_)
    refine zr_aload_n (r := some h0) hx hb dX5_back_40 rfl (lv_at hl 0 rfl) ?_
    obtain ⟨a_35, ci_36, fs_37, r_38, er, he, hc, hv, hw⟩ := zgR_e hw
    refine zw_get hk hH er he hv (fk_X5_135 hc) dX5_back_41 ?_
    refine lv_iconst (v := (0 : Int32)) hx hb dX5_back_44 (by decide) ?_
    refine zr_aload_n (r := some h0) hx hb dX5_back_45 rfl (lv_at hl 0 rfl) ?_
    obtain ⟨a_39, ci_40, fs_41, r_42, er, he, hc, hv, hw⟩ := zgR_e hw
    refine zw_get hk hH er he hv (fk_X5_13 hc) dX5_back_46 ?_
    refine lv_iconst (v := (0 : Int32)) hx hb dX5_back_49 (by decide) ?_
    refine lv_bipush (v := (24 : Int32)) hx hb dX5_back_50 (by decide) ?_
    obtain ⟨a_43, n_45, f_47, er0, he0, hw⟩ := zaI_e hw
    obtain ⟨a_44, n_46, f_48, er1, he1, hA, h1, h2, h3, h4, h5, hft, hw⟩ := zaI_e hw
    obtain ⟨hp_49, eh⟩ : ∃ y : zHp, y = va_up hp_34 a_44 (some (.inl (g.2.1 3, n_46, .inl (va_cpy f_47 f_48 (0 : Int32).toNatClampNeg (0 : Int32).toNatClampNeg (24 : Int32).toNatClampNeg)))) := ⟨_, rfl⟩
    have hw := hw hp_49 eh
    refine zw_copyI (r0 := r_38) (r1 := r_42) (ty := .boolean) hk hH hz hS hl.1 q3171 q432 q431 q145 3 er0 er1 he0 he1 rfl rfl hA h1 h2 h3 h4 h5 hft eh (Nat.le_add_left 1 d) (Nat.le_trans (Nat.le_of_ble_eq_true rfl : _ ≤ 64) (by show 64 ≤ 64 * (d + 1); omega)) dX5_back_52 (fun H locs hH hz hS => ?_)
    refine zr_aload_n (r := some h0) hx hb dX5_back_55 rfl (lv_at hl 0 rfl) ?_
    obtain ⟨a_50, ci_51, fs_52, r_53, er, he, hc, hv, hw⟩ := zgR_e hw
    refine zw_get hk hH er he hv (fk_X5_141 hc) dX5_back_56 ?_
    refine lv_iconst (v := (0 : Int32)) hx hb dX5_back_59 (by decide) ?_
    refine zr_aload_n (r := some h0) hx hb dX5_back_60 rfl (lv_at hl 0 rfl) ?_
    obtain ⟨a_54, ci_55, fs_56, r_57, er, he, hc, hv, hw⟩ := zgR_e hw
    refine zw_get hk hH er he hv (fk_X5_17 hc) dX5_back_61 ?_
    refine lv_iconst (v := (0 : Int32)) hx hb dX5_back_64 (by decide) ?_
    refine lv_bipush (v := (24 : Int32)) hx hb dX5_back_65 (by decide) ?_
    obtain ⟨a_58, n_60, f_62, er0, he0, hw⟩ := zaD_e hw
    obtain ⟨a_59, n_61, f_63, er1, he1, hA, h1, h2, h3, h4, h5, hft, hw⟩ := zaD_e hw
    obtain ⟨hp_64, eh⟩ : ∃ y : zHp, y = va_up hp_49 a_59 (some (.inl (g.2.1 1, n_61, .inr (.inr (.inr (.inl (va_cpy f_62 f_63 (0 : Int32).toNatClampNeg (0 : Int32).toNatClampNeg (24 : Int32).toNatClampNeg))))))) := ⟨_, rfl⟩
    have hw := hw hp_64 eh
    refine zw_copyD (r0 := r_53) (r1 := r_57) (ty := .double) hk hH hz hS hl.1 q3171 q432 q431 q145 1 er0 er1 he0 he1 rfl rfl hA h1 h2 h3 h4 h5 hft eh (Nat.le_add_left 1 d) (Nat.le_trans (Nat.le_of_ble_eq_true rfl : _ ≤ 64) (by show 64 ≤ 64 * (d + 1); omega)) dX5_back_67 (fun H locs hH hz hS => ?_)
    refine lv_iconst (v := (0 : Int32)) hx hb dX5_back_70 (by decide) ?_
    refine lv_istore_n (i := 1) (lv' := [(1, .int (0 : Int32)), (0, va_rf (some h0))]) hx hb dX5_back_71 rfl hl (by decide) (by first | rfl | simp [List.filter_cons, z_cat, z_catI, z_catJ, z_catF, z_catD]) (fun ls hl => ?_)
    obtain ⟨I_72, ⟨n_233, hI⟩, hB_72⟩ := hw
    have hL_72 : ∀ (n_68 : Nat) (x_65 : Int32) (hp_66 : zHp) (nx_67 : Nat) (H : Heap) (locs : List Loc) (ls : Array Slot), I_72 n_68 x_65 hp_66 nx_67 → lv_has ls 2 [(0, va_rf (some h0)), (1, .int x_65)] → zHd g hp_66 H → H.size = nx_67 → va_S (zAd g) s.heap H locs → W p l e (zrm (d + 1) 0 0) s m ([.ref h0] : List Value).toArray below meth c H locs 0 0 (MQ below (zQi g Post) ([.ref h0] : List Value).toArray s 0 0 (zAd g)) (F0 m 72 ls []) := by
      intro n_68
      induction n_68 using Nat.strongRecOn with
      | _ n_68 ih_72 =>
        intro x_65 hp_66 nx_67 H locs ls hw hl hH hz hS
        have hw := hB_72 n_68 x_65 hp_66 nx_67 hw
        refine lv_iload_n hx hb dX5_back_72 rfl (lv_at hl 1 rfl) ?_
        refine lv_bipush (v := (24 : Int32)) hx hb dX5_back_73 (by decide) ?_
        refine lv_icmp_ge (tgt := 127) hx hb dX5_back_75 (by decide) (fun hc => ?_) (fun hc => ?_)
        · have hw := hw.1 hc
          refine zr_aload_n (r := some h0) hx hb dX5_back_127 rfl (lv_at hl 0 rfl) ?_
          obtain ⟨a_69, ci_70, fs_71, r_72, er, he, hc, hv, hw⟩ := zgR_e hw
          refine zw_get hk hH er he hv (fk_X5_138 hc) dX5_back_128 ?_
          refine lv_iconst (v := (0 : Int32)) hx hb dX5_back_131 (by decide) ?_
          refine zr_aload_n (r := some h0) hx hb dX5_back_132 rfl (lv_at hl 0 rfl) ?_
          obtain ⟨a_73, ci_74, fs_75, r_76, er, he, hc, hv, hw⟩ := zgR_e hw
          refine zw_get hk hH er he hv (fk_X5_34 hc) dX5_back_133 ?_
          refine lv_iconst (v := (0 : Int32)) hx hb dX5_back_136 (by decide) ?_
          refine lv_bipush (v := (6 : Int32)) hx hb dX5_back_137 (by decide) ?_
          obtain ⟨a_77, n_79, f_81, er0, he0, hw⟩ := zaI_e hw
          obtain ⟨a_78, n_80, f_82, er1, he1, hA, h1, h2, h3, h4, h5, hft, hw⟩ := zaI_e hw
          obtain ⟨hp_83, eh⟩ : ∃ y : zHp, y = va_up hp_66 a_78 (some (.inl (g.2.1 3, n_80, .inl (va_cpy f_81 f_82 (0 : Int32).toNatClampNeg (0 : Int32).toNatClampNeg (6 : Int32).toNatClampNeg)))) := ⟨_, rfl⟩
          have hw := hw hp_83 eh
          refine zw_copyI (r0 := r_72) (r1 := r_76) (ty := .boolean) hk hH hz hS hl.1 q3171 q432 q431 q145 3 er0 er1 he0 he1 rfl rfl hA h1 h2 h3 h4 h5 hft eh (Nat.le_add_left 1 d) (Nat.le_trans (Nat.le_of_ble_eq_true rfl : _ ≤ 64) (by show 64 ≤ 64 * (d + 1); omega)) dX5_back_139 (fun H locs hH hz hS => ?_)
          refine zr_aload_n (r := some h0) hx hb dX5_back_142 rfl (lv_at hl 0 rfl) ?_
          obtain ⟨a_84, ci_85, fs_86, r_87, er, he, hc, hv, hw⟩ := zgR_e hw
          refine zw_get hk hH er he hv (fk_X5_150 hc) dX5_back_143 ?_
          refine lv_iconst (v := (0 : Int32)) hx hb dX5_back_146 (by decide) ?_
          refine zr_aload_n (r := some h0) hx hb dX5_back_147 rfl (lv_at hl 0 rfl) ?_
          obtain ⟨a_88, ci_89, fs_90, r_91, er, he, hc, hv, hw⟩ := zgR_e hw
          refine zw_get hk hH er he hv (fk_X5_37 hc) dX5_back_148 ?_
          refine lv_iconst (v := (0 : Int32)) hx hb dX5_back_151 (by decide) ?_
          refine lv_bipush (v := (6 : Int32)) hx hb dX5_back_152 (by decide) ?_
          obtain ⟨a_92, n_94, f_96, er0, he0, hw⟩ := zaI_e hw
          obtain ⟨a_93, n_95, f_97, er1, he1, hA, h1, h2, h3, h4, h5, hft, hw⟩ := zaI_e hw
          obtain ⟨hp_98, eh⟩ : ∃ y : zHp, y = va_up hp_83 a_93 (some (.inl (g.2.1 0, n_95, .inl (va_cpy f_96 f_97 (0 : Int32).toNatClampNeg (0 : Int32).toNatClampNeg (6 : Int32).toNatClampNeg)))) := ⟨_, rfl⟩
          have hw := hw hp_98 eh
          refine zw_copyI (r0 := r_87) (r1 := r_91) (ty := .int) hk hH hz hS hl.1 q3171 q432 q431 q145 0 er0 er1 he0 he1 rfl rfl hA h1 h2 h3 h4 h5 hft eh (Nat.le_add_left 1 d) (Nat.le_trans (Nat.le_of_ble_eq_true rfl : _ ≤ 64) (by show 64 ≤ 64 * (d + 1); omega)) dX5_back_154 (fun H locs hH hz hS => ?_)
          refine zr_aload_n (r := some h0) hx hb dX5_back_157 rfl (lv_at hl 0 rfl) ?_
          obtain ⟨a_99, ci_100, fs_101, r_102, er, he, hc, hv, hw⟩ := zgR_e hw
          refine zw_get hk hH er he hv (fk_X5_153 hc) dX5_back_158 ?_
          refine lv_iconst (v := (0 : Int32)) hx hb dX5_back_161 (by decide) ?_
          refine zr_aload_n (r := some h0) hx hb dX5_back_162 rfl (lv_at hl 0 rfl) ?_
          obtain ⟨a_103, ci_104, fs_105, r_106, er, he, hc, hv, hw⟩ := zgR_e hw
          refine zw_get hk hH er he hv (fk_X5_40 hc) dX5_back_163 ?_
          refine lv_iconst (v := (0 : Int32)) hx hb dX5_back_166 (by decide) ?_
          refine lv_bipush (v := (6 : Int32)) hx hb dX5_back_167 (by decide) ?_
          obtain ⟨a_107, n_109, f_111, er0, he0, hw⟩ := zaI_e hw
          obtain ⟨a_108, n_110, f_112, er1, he1, hA, h1, h2, h3, h4, h5, hft, hw⟩ := zaI_e hw
          obtain ⟨hp_113, eh⟩ : ∃ y : zHp, y = va_up hp_98 a_108 (some (.inl (g.2.1 0, n_110, .inl (va_cpy f_111 f_112 (0 : Int32).toNatClampNeg (0 : Int32).toNatClampNeg (6 : Int32).toNatClampNeg)))) := ⟨_, rfl⟩
          have hw := hw hp_113 eh
          refine zw_copyI (r0 := r_102) (r1 := r_106) (ty := .int) hk hH hz hS hl.1 q3171 q432 q431 q145 0 er0 er1 he0 he1 rfl rfl hA h1 h2 h3 h4 h5 hft eh (Nat.le_add_left 1 d) (Nat.le_trans (Nat.le_of_ble_eq_true rfl : _ ≤ 64) (by show 64 ≤ 64 * (d + 1); omega)) dX5_back_169 (fun H locs hH hz hS => ?_)
          refine zr_aload_n (r := some h0) hx hb dX5_back_172 rfl (lv_at hl 0 rfl) ?_
          obtain ⟨a_114, ci_115, fs_116, r_117, er, he, hc, hv, hw⟩ := zgR_e hw
          refine zw_get hk hH er he hv (fk_X5_156 hc) dX5_back_173 ?_
          refine lv_iconst (v := (0 : Int32)) hx hb dX5_back_176 (by decide) ?_
          refine zr_aload_n (r := some h0) hx hb dX5_back_177 rfl (lv_at hl 0 rfl) ?_
          obtain ⟨a_118, ci_119, fs_120, r_121, er, he, hc, hv, hw⟩ := zgR_e hw
          refine zw_get hk hH er he hv (fk_X5_43 hc) dX5_back_178 ?_
          refine lv_iconst (v := (0 : Int32)) hx hb dX5_back_181 (by decide) ?_
          refine lv_bipush (v := (6 : Int32)) hx hb dX5_back_182 (by decide) ?_
          obtain ⟨a_122, n_124, f_126, er0, he0, hw⟩ := zaI_e hw
          obtain ⟨a_123, n_125, f_127, er1, he1, hA, h1, h2, h3, h4, h5, hft, hw⟩ := zaI_e hw
          obtain ⟨hp_128, eh⟩ : ∃ y : zHp, y = va_up hp_113 a_123 (some (.inl (g.2.1 0, n_125, .inl (va_cpy f_126 f_127 (0 : Int32).toNatClampNeg (0 : Int32).toNatClampNeg (6 : Int32).toNatClampNeg)))) := ⟨_, rfl⟩
          have hw := hw hp_128 eh
          refine zw_copyI (r0 := r_117) (r1 := r_121) (ty := .int) hk hH hz hS hl.1 q3171 q432 q431 q145 0 er0 er1 he0 he1 rfl rfl hA h1 h2 h3 h4 h5 hft eh (Nat.le_add_left 1 d) (Nat.le_trans (Nat.le_of_ble_eq_true rfl : _ ≤ 64) (by show 64 ≤ 64 * (d + 1); omega)) dX5_back_184 (fun H locs hH hz hS => ?_)
          refine zr_aload_n (r := some h0) hx hb dX5_back_187 rfl (lv_at hl 0 rfl) ?_
          obtain ⟨a_129, ci_130, fs_131, r_132, er, he, hc, hv, hw⟩ := zgR_e hw
          refine zw_get hk hH er he hv (fk_X5_159 hc) dX5_back_188 ?_
          refine lv_iconst (v := (0 : Int32)) hx hb dX5_back_191 (by decide) ?_
          refine zr_aload_n (r := some h0) hx hb dX5_back_192 rfl (lv_at hl 0 rfl) ?_
          obtain ⟨a_133, ci_134, fs_135, r_136, er, he, hc, hv, hw⟩ := zgR_e hw
          refine zw_get hk hH er he hv (fk_X5_46 hc) dX5_back_193 ?_
          refine lv_iconst (v := (0 : Int32)) hx hb dX5_back_196 (by decide) ?_
          refine lv_bipush (v := (12 : Int32)) hx hb dX5_back_197 (by decide) ?_
          obtain ⟨a_137, n_139, f_141, er0, he0, hw⟩ := zaI_e hw
          obtain ⟨a_138, n_140, f_142, er1, he1, hA, h1, h2, h3, h4, h5, hft, hw⟩ := zaI_e hw
          obtain ⟨hp_143, eh⟩ : ∃ y : zHp, y = va_up hp_128 a_138 (some (.inl (g.2.1 0, n_140, .inl (va_cpy f_141 f_142 (0 : Int32).toNatClampNeg (0 : Int32).toNatClampNeg (12 : Int32).toNatClampNeg)))) := ⟨_, rfl⟩
          have hw := hw hp_143 eh
          refine zw_copyI (r0 := r_132) (r1 := r_136) (ty := .int) hk hH hz hS hl.1 q3171 q432 q431 q145 0 er0 er1 he0 he1 rfl rfl hA h1 h2 h3 h4 h5 hft eh (Nat.le_add_left 1 d) (Nat.le_trans (Nat.le_of_ble_eq_true rfl : _ ≤ 64) (by show 64 ≤ 64 * (d + 1); omega)) dX5_back_199 (fun H locs hH hz hS => ?_)
          refine lv_iconst (v := (0 : Int32)) hx hb dX5_back_202 (by decide) ?_
          refine lv_istore_n (i := 1) (lv' := [(1, .int (0 : Int32)), (0, va_rf (some h0))]) hx hb dX5_back_203 rfl hl (by decide) (by first | rfl | simp [List.filter_cons, z_cat, z_catI, z_catJ, z_catF, z_catD]) (fun ls hl => ?_)
          obtain ⟨I_204, ⟨n_179, hI⟩, hB_204⟩ := hw
          have hL_204 : ∀ (n_147 : Nat) (x_144 : Int32) (hp_145 : zHp) (nx_146 : Nat) (H : Heap) (locs : List Loc) (ls : Array Slot), I_204 n_147 x_144 hp_145 nx_146 → lv_has ls 2 [(0, va_rf (some h0)), (1, .int x_144)] → zHd g hp_145 H → H.size = nx_146 → va_S (zAd g) s.heap H locs → W p l e (zrm (d + 1) 0 0) s m ([.ref h0] : List Value).toArray below meth c H locs 0 0 (MQ below (zQi g Post) ([.ref h0] : List Value).toArray s 0 0 (zAd g)) (F0 m 204 ls []) := by
            intro n_147
            induction n_147 using Nat.strongRecOn with
            | _ n_147 ih_204 =>
              intro x_144 hp_145 nx_146 H locs ls hw hl hH hz hS
              have hw := hB_204 n_147 x_144 hp_145 nx_146 hw
              refine lv_iload_n hx hb dX5_back_204 rfl (lv_at hl 1 rfl) ?_
              refine lv_bipush (v := (12 : Int32)) hx hb dX5_back_205 (by decide) ?_
              refine lv_icmp_ge (tgt := 235) hx hb dX5_back_207 (by decide) (fun hc => ?_) (fun hc => ?_)
              · have hw := hw.1 hc
                refine zr_aload_n (r := some h0) hx hb dX5_back_235 rfl (lv_at hl 0 rfl) ?_
                obtain ⟨a_151, ci_152, fs_153, er, he, hc, hw⟩ := zo_e hw
                obtain rfl := List.mem_singleton.mp hc
                refine zr_calli (zw_runV (As := []) hk hH hz hS hl.1 er hw (cwV 0 hts (lw_V q3314 q3316 qs128 q162 q3317) rfl rfl rfl (by decide +kernel) (z_room (Nat.le_of_ble_eq_true rfl))) he rfl rfl rfl (Nat.le_of_ble_eq_true rfl) dX5_back_236 ⟨Nat.le_of_ble_eq_true rfl, Nat.le_of_ble_eq_true rfl⟩) hS (fun x_150 hp_148 nx_149 hw H locs hH hz hS => ?_)
                exact zr_iret hk hr hH hz hS hw (Nat.le_of_ble_eq_true rfl) (Nat.le_of_ble_eq_true rfl) dX5_back_239
              · have hw := hw.2 hc
                refine zr_aload_n (r := some h0) hx hb dX5_back_210 rfl (lv_at hl 0 rfl) ?_
                obtain ⟨a_154, ci_155, fs_156, r_157, er, he, hc, hv, hw⟩ := zgR_e hw
                refine zw_get hk hH er he hv (fk_X5_162 hc) dX5_back_211 ?_
                refine lv_iload_n hx hb dX5_back_214 rfl (lv_at hl 1 rfl) ?_
                obtain ⟨a_158, n_159, f_160, er, he, hi, hw⟩ := zaR_e hw
                have hw := hw _ rfl
                refine zw_aald hk hH 15 er he rfl rfl hi dX5_back_215 ?_
                generalize f_160 x_144.toNatClampNeg = r_161 at hw ⊢
                refine lv_iconst (v := (0 : Int32)) hx hb dX5_back_216 (by decide) ?_
                refine zr_aload_n (r := some h0) hx hb dX5_back_217 rfl (lv_at hl 0 rfl) ?_
                obtain ⟨a_162, ci_163, fs_164, r_165, er, he, hc, hv, hw⟩ := zgR_e hw
                refine zw_get hk hH er he hv (fk_X5_49 hc) dX5_back_218 ?_
                refine lv_iload_n hx hb dX5_back_221 rfl (lv_at hl 1 rfl) ?_
                obtain ⟨a_166, n_167, f_168, er, he, hi, hw⟩ := zaR_e hw
                have hw := hw _ rfl
                refine zw_aald hk hH 15 er he rfl rfl hi dX5_back_222 ?_
                generalize f_168 x_144.toNatClampNeg = r_169 at hw ⊢
                refine lv_iconst (v := (0 : Int32)) hx hb dX5_back_223 (by decide) ?_
                refine lv_bipush (v := (8 : Int32)) hx hb dX5_back_224 (by decide) ?_
                obtain ⟨a_170, n_172, f_174, er0, he0, hw⟩ := zaD_e hw
                obtain ⟨a_171, n_173, f_175, er1, he1, hA, h1, h2, h3, h4, h5, hft, hw⟩ := zaD_e hw
                obtain ⟨hp_176, eh⟩ : ∃ y : zHp, y = va_up hp_145 a_171 (some (.inl (g.2.1 1, n_173, .inr (.inr (.inr (.inl (va_cpy f_174 f_175 (0 : Int32).toNatClampNeg (0 : Int32).toNatClampNeg (8 : Int32).toNatClampNeg))))))) := ⟨_, rfl⟩
                have hw := hw hp_176 eh
                refine zw_copyD (r0 := r_161) (r1 := r_169) (ty := .double) hk hH hz hS hl.1 q3171 q432 q431 q145 1 er0 er1 he0 he1 rfl rfl hA h1 h2 h3 h4 h5 hft eh (Nat.le_add_left 1 d) (Nat.le_trans (Nat.le_of_ble_eq_true rfl : _ ≤ 64) (by show 64 ≤ 64 * (d + 1); omega)) dX5_back_226 (fun H locs hH hz hS => ?_)
                obtain ⟨x_177, ex_177⟩ : ∃ y : Int32, y = x_144 + (1 : Int32) := ⟨_, rfl⟩
                have hw := hw x_177 ex_177
                refine lv_iinc (v := x_177) (lv' := [(1, .int x_177), (0, va_rf (some h0))]) hx hb dX5_back_229 hl (k := 1) rfl (by rw [ex_177]; rfl) (by decide) (by first | rfl | simp [List.filter_cons, z_cat, z_catI, z_catJ, z_catF, z_catD]) (fun ls hl => ?_)
                refine lv_goto (tgt := 204) hx hb dX5_back_232 (by decide) ?_
                obtain ⟨k_178, hlt, hw⟩ := hw
                exact ih_204 k_178 hlt x_177 hp_176 nx_146 _ _ _ hw (lv_sub hl [1, 0] rfl) hH hz hS
          exact hL_204 n_179 (0 : Int32) hp_143 nx_67 _ _ _ hI (lv_sub hl [1, 0] rfl) hH hz hS
        · have hw := hw.2 hc
          refine zr_aload_n (r := some h0) hx hb dX5_back_78 rfl (lv_at hl 0 rfl) ?_
          obtain ⟨a_180, ci_181, fs_182, r_183, er, he, hc, hv, hw⟩ := zgR_e hw
          refine zw_get hk hH er he hv (fk_X5_144 hc) dX5_back_79 ?_
          refine lv_iload_n hx hb dX5_back_82 rfl (lv_at hl 1 rfl) ?_
          obtain ⟨a_184, n_185, f_186, er, he, hi, hw⟩ := zaR_e hw
          have hw := hw _ rfl
          refine zw_aald hk hH 14 er he rfl rfl hi dX5_back_83 ?_
          generalize f_186 x_65.toNatClampNeg = r_187 at hw ⊢
          refine lv_iconst (v := (0 : Int32)) hx hb dX5_back_84 (by decide) ?_
          refine zr_aload_n (r := some h0) hx hb dX5_back_85 rfl (lv_at hl 0 rfl) ?_
          obtain ⟨a_188, ci_189, fs_190, r_191, er, he, hc, hv, hw⟩ := zgR_e hw
          refine zw_get hk hH er he hv (fk_X5_26 hc) dX5_back_86 ?_
          refine lv_iload_n hx hb dX5_back_89 rfl (lv_at hl 1 rfl) ?_
          obtain ⟨a_192, n_193, f_194, er, he, hi, hw⟩ := zaR_e hw
          have hw := hw _ rfl
          refine zw_aald hk hH 14 er he rfl rfl hi dX5_back_90 ?_
          generalize f_194 x_65.toNatClampNeg = r_195 at hw ⊢
          refine lv_iconst (v := (0 : Int32)) hx hb dX5_back_91 (by decide) ?_
          refine lv_bipush (v := (96 : Int32)) hx hb dX5_back_92 (by decide) ?_
          obtain ⟨a_196, n_198, f_200, er0, he0, hw⟩ := zaI_e hw
          obtain ⟨a_197, n_199, f_201, er1, he1, hA, h1, h2, h3, h4, h5, hft, hw⟩ := zaI_e hw
          obtain ⟨hp_202, eh⟩ : ∃ y : zHp, y = va_up hp_66 a_197 (some (.inl (g.2.1 0, n_199, .inl (va_cpy f_200 f_201 (0 : Int32).toNatClampNeg (0 : Int32).toNatClampNeg (96 : Int32).toNatClampNeg)))) := ⟨_, rfl⟩
          have hw := hw hp_202 eh
          refine zw_copyI (r0 := r_187) (r1 := r_195) (ty := .int) hk hH hz hS hl.1 q3171 q432 q431 q145 0 er0 er1 he0 he1 rfl rfl hA h1 h2 h3 h4 h5 hft eh (Nat.le_add_left 1 d) (Nat.le_trans (Nat.le_of_ble_eq_true rfl : _ ≤ 64) (by show 64 ≤ 64 * (d + 1); omega)) dX5_back_94 (fun H locs hH hz hS => ?_)
          refine zr_aload_n (r := some h0) hx hb dX5_back_97 rfl (lv_at hl 0 rfl) ?_
          obtain ⟨a_203, ci_204, fs_205, r_206, er, he, hc, hv, hw⟩ := zgR_e hw
          refine zw_get hk hH er he hv (fk_X5_147 hc) dX5_back_98 ?_
          refine lv_iload_n hx hb dX5_back_101 rfl (lv_at hl 1 rfl) ?_
          obtain ⟨a_207, n_208, f_209, er, he, hi, hw⟩ := zaR_e hw
          have hw := hw _ rfl
          refine zw_aald hk hH 15 er he rfl rfl hi dX5_back_102 ?_
          generalize f_209 x_65.toNatClampNeg = r_210 at hw ⊢
          refine lv_iconst (v := (0 : Int32)) hx hb dX5_back_103 (by decide) ?_
          refine zr_aload_n (r := some h0) hx hb dX5_back_104 rfl (lv_at hl 0 rfl) ?_
          obtain ⟨a_211, ci_212, fs_213, r_214, er, he, hc, hv, hw⟩ := zgR_e hw
          refine zw_get hk hH er he hv (fk_X5_31 hc) dX5_back_105 ?_
          refine lv_iload_n hx hb dX5_back_108 rfl (lv_at hl 1 rfl) ?_
          obtain ⟨a_215, n_216, f_217, er, he, hi, hw⟩ := zaR_e hw
          have hw := hw _ rfl
          refine zw_aald hk hH 15 er he rfl rfl hi dX5_back_109 ?_
          generalize f_217 x_65.toNatClampNeg = r_218 at hw ⊢
          refine lv_iconst (v := (0 : Int32)) hx hb dX5_back_110 (by decide) ?_
          refine lv_bipush (v := (96 : Int32)) hx hb dX5_back_111 (by decide) ?_
          obtain ⟨a_219, n_221, f_223, er0, he0, hw⟩ := zaD_e hw
          obtain ⟨a_220, n_222, f_224, er1, he1, hA, h1, h2, h3, h4, h5, hft, hw⟩ := zaD_e hw
          obtain ⟨hp_225, eh⟩ : ∃ y : zHp, y = va_up hp_202 a_220 (some (.inl (g.2.1 1, n_222, .inr (.inr (.inr (.inl (va_cpy f_223 f_224 (0 : Int32).toNatClampNeg (0 : Int32).toNatClampNeg (96 : Int32).toNatClampNeg))))))) := ⟨_, rfl⟩
          have hw := hw hp_225 eh
          refine zw_copyD (r0 := r_210) (r1 := r_218) (ty := .double) hk hH hz hS hl.1 q3171 q432 q431 q145 1 er0 er1 he0 he1 rfl rfl hA h1 h2 h3 h4 h5 hft eh (Nat.le_add_left 1 d) (Nat.le_trans (Nat.le_of_ble_eq_true rfl : _ ≤ 64) (by show 64 ≤ 64 * (d + 1); omega)) dX5_back_113 (fun H locs hH hz hS => ?_)
          refine zr_aload_n (r := some h0) hx hb dX5_back_116 rfl (lv_at hl 0 rfl) ?_
          refine lv_iload_n hx hb dX5_back_117 rfl (lv_at hl 1 rfl) ?_
          obtain ⟨a_230, ci_231, fs_232, er, he, hc, hw⟩ := zo_e hw
          obtain rfl := List.mem_singleton.mp hc
          refine zr_callv (zw_runV (As := [.int x_65]) hk hH hz hS hl.1 er hw (cwV 1 hts (lw_V q2937 q2939 qs70 q162 q2940) rfl rfl rfl (by decide +kernel) (z_room (Nat.le_of_ble_eq_true rfl))) he rfl rfl rfl (Nat.le_of_ble_eq_true rfl) dX5_back_118 ⟨Nat.le_of_ble_eq_true rfl, Nat.le_of_ble_eq_true rfl⟩) hS (fun hp_226 nx_227 hw H locs hH hz hS => ?_)
          obtain ⟨x_228, ex_228⟩ : ∃ y : Int32, y = x_65 + (1 : Int32) := ⟨_, rfl⟩
          have hw := hw x_228 ex_228
          refine lv_iinc (v := x_228) (lv' := [(1, .int x_228), (0, va_rf (some h0))]) hx hb dX5_back_121 hl (k := 1) rfl (by rw [ex_228]; rfl) (by decide) (by first | rfl | simp [List.filter_cons, z_cat, z_catI, z_catJ, z_catF, z_catD]) (fun ls hl => ?_)
          refine lv_goto (tgt := 72) hx hb dX5_back_124 (by decide) ?_
          obtain ⟨k_229, hlt, hw⟩ := hw
          exact ih_72 k_229 hlt x_228 hp_226 nx_227 _ _ _ hw (lv_sub hl [1, 0] rfl) hH hz hS
    exact hL_72 n_233 (0 : Int32) hp_64 nx _ _ _ hI (lv_sub hl [1, 0] rfl) hH hz hS
  · have hw := hw.1 hc
    refine lv_bipush (v := (-3 : Int32)) hx hb dX5_back_7 (by decide) ?_
    exact zr_iret hk hr hH hz hS hw (Nat.le_of_ble_eq_true rfl) (Nat.le_of_ble_eq_true rfl) dX5_back_9
def wp_X5_count (l : Launch) (g : zG) (d : Nat) (h0 : Nat) (x1 : Int32) (hp : zHp) (nx : Nat) (Post : Int32 → zHp → Nat → Prop) : Prop :=
  ((x1 = 0 →
  (zo hp (some h0) [5] fun a_56 ci_57 fs_58 => zMt l g yX5_formulas cX5_formulas 3 (some .int) d 0 0 (.ref a_56 :: []) hp nx (zQi g fun x_55 hp_53 nx_54 =>
  (Post x_55 hp_53 nx_54)))) ∧
  (¬ x1 = 0 →
  ((x1 = (3 : Int32) →
  (zgI hp (some h0) [5] 34 fun x_52 =>
  (Post x_52 hp nx))) ∧
  (¬ x1 = (3 : Int32) →
  ((x1 = (1 : Int32) →
  (∃ I_28 : Nat → Int32 → Int32 → zHp → Nat → Prop, (∃ n_48, I_28 n_48 (0 : Int32) (0 : Int32) hp nx) ∧ ∀ (n_26 : Nat) (x_22 : Int32) (x_23 : Int32) (hp_24 : zHp) (nx_25 : Nat), I_28 n_26 x_22 x_23 hp_24 nx_25 →
  (((24 : Int32) ≤ x_23 →
  (Post x_22 hp_24 nx_25)) ∧
  (¬ (24 : Int32) ≤ x_23 →
  (zo hp_24 (some h0) [5] fun a_45 ci_46 fs_47 => zMt l g yX5_isInput cX5_isInput 2 (some .boolean) d 0 0 (.ref a_45 :: [.int x_23]) hp_24 nx_25 (zQi g fun x_29 hp_27 nx_28 =>
  (∃ P_54 : Int32 → Int32 → zHp → Nat → Prop, (∀ (x_30 : Int32) (x_31 : Int32) (hp_32 : zHp) (nx_33 : Nat), P_54 x_30 x_31 hp_32 nx_33 →
  (∀ x_34 : Int32, x_34 = x_31 + (1 : Int32) →
  (∃ k_35, k_35 < n_26 ∧ I_28 k_35 x_30 x_34 hp_32 nx_33))) ∧
  ((x_29 = 0 →
  P_54 x_22 x_23 hp_27 nx_28) ∧
  (¬ x_29 = 0 →
  (zgR hp_27 (some h0) [5] 1 fun r_39 =>
  (zaI (g.2.1 3) hp_27 r_39 fun a_40 n_41 f_42 => vp_in x_23 n_41 ∧ ∀ x_43 : Int32, x_43 = f_42 x_23.toNatClampNeg →
  ((x_43 = 0 →
  P_54 x_22 x_23 hp_27 nx_28) ∧
  (¬ x_43 = 0 →
  (∀ x_44 : Int32, x_44 = x_22 + (1 : Int32) →
  P_54 x_44 x_23 hp_27 nx_28)))))))))))))) ∧
  (¬ x1 = (1 : Int32) →
  ((x1 = (2 : Int32) →
  (∃ I_72 : Nat → Int32 → Int32 → zHp → Nat → Prop, (∃ n_21, I_72 n_21 (0 : Int32) (0 : Int32) hp nx) ∧ ∀ (n_5 : Nat) (x_1 : Int32) (x_2 : Int32) (hp_3 : zHp) (nx_4 : Nat), I_72 n_5 x_1 x_2 hp_3 nx_4 →
  (((6 : Int32) ≤ x_2 →
  (Post x_1 hp_3 nx_4)) ∧
  (¬ (6 : Int32) ≤ x_2 →
  (zgR hp_3 (some h0) [5] 6 fun r_9 =>
  (zaI (g.2.1 3) hp_3 r_9 fun a_10 n_11 f_12 => vp_in x_2 n_11 ∧ ∀ x_13 : Int32, x_13 = f_12 x_2.toNatClampNeg →
  (∃ P_90 : Int32 → Int32 → zHp → Nat → Prop, (∀ (x_14 : Int32) (x_15 : Int32) (hp_16 : zHp) (nx_17 : Nat), P_90 x_14 x_15 hp_16 nx_17 →
  (∀ x_18 : Int32, x_18 = x_15 + (1 : Int32) →
  (∃ k_19, k_19 < n_5 ∧ I_72 k_19 x_14 x_18 hp_16 nx_17))) ∧
  ((x_13 = 0 →
  P_90 x_1 x_2 hp_3 nx_4) ∧
  (¬ x_13 = 0 →
  (∀ x_20 : Int32, x_20 = x_1 + (1 : Int32) →
  P_90 x_20 x_2 hp_3 nx_4)))))))))) ∧
  (¬ x1 = (2 : Int32) →
  (Post (-2 : Int32) hp nx)))))))))
set_option maxHeartbeats 40000000 in
theorem met_X5_count {l : Launch} {g : zG} {d : Nat} {h0 : Nat} {x1 : Int32} {hp : zHp} {nx : Nat} {Post : Int32 → zHp → Nat → Prop} (hw : wp_X5_count l g d h0 x1 hp nx Post) : zMt l g yX5_count cX5_count 4 (some .int) (d + 1) 0 0 [.ref h0, .int x1] hp nx (zQi g Post) := by
  refine z_start (by decide) (Nat.le_of_ble_eq_true rfl) ?_
  intro p e s m below meth c hk hr hin hH hz ls hl
  have hx := hk.1.1
  have hb := hk.1.2.1
  have hown := hk.1.2.2.2.1
  have hts := hk.1.2.2.2.2
  have hS : va_S (zAd g) s.heap s.heap [] := va_S.rf
  have hl : lv_has ls 4 [(0, va_rf (some h0)), (1, .int x1)] := hl
  unfold wp_X5_count at hw
  refine lv_iconst (v := (0 : Int32)) hx hb dX5_count_0 (by decide) ?_
  refine lv_istore_n (i := 2) (lv' := [(2, .int (0 : Int32)), (0, va_rf (some h0)), (1, .int x1)]) hx hb dX5_count_1 rfl hl (by decide) (by first | rfl | simp [List.filter_cons, z_cat, z_catI, z_catJ, z_catF, z_catD]) (fun ls hl => ?_)
  refine lv_iload_n hx hb dX5_count_2 rfl (lv_at hl 2 rfl) ?_
  refine lv_if_ne (tgt := 11) hx hb dX5_count_3 (by decide) (fun hc => ?_) (fun hc => ?_)
  · have hw := hw.2 hc
    refine lv_iload_n hx hb dX5_count_11 rfl (lv_at hl 2 rfl) ?_
    refine lv_iconst (v := (3 : Int32)) hx hb dX5_count_12 (by decide) ?_
    refine lv_icmp_ne (tgt := 21) hx hb dX5_count_13 (by decide) (fun hc => ?_) (fun hc => ?_)
    · have hw := hw.2 hc
      refine lv_iload_n hx hb dX5_count_21 rfl (lv_at hl 2 rfl) ?_
      refine lv_iconst (v := (1 : Int32)) hx hb dX5_count_22 (by decide) ?_
      refine lv_icmp_ne (tgt := 62) hx hb dX5_count_23 (by decide) (fun hc => ?_) (fun hc => ?_)
      · have hw := hw.2 hc
        refine lv_iload_n hx hb dX5_count_62 rfl (lv_at hl 2 rfl) ?_
        refine lv_iconst (v := (2 : Int32)) hx hb dX5_count_63 (by decide) ?_
        refine lv_icmp_eq (tgt := 70) hx hb dX5_count_64 (by decide) (fun hc => ?_) (fun hc => ?_)
        · have hw := hw.1 hc
          refine lv_iconst (v := (0 : Int32)) hx hb dX5_count_70 (by decide) ?_
          refine lv_istore_n (i := 3) (lv' := [(3, .int (0 : Int32)), (2, .int (0 : Int32)), (0, va_rf (some h0)), (1, .int x1)]) hx hb dX5_count_71 rfl hl (by decide) (by first | rfl | simp [List.filter_cons, z_cat, z_catI, z_catJ, z_catF, z_catD]) (fun ls hl => ?_)
          obtain ⟨I_72, ⟨n_21, hI⟩, hB_72⟩ := hw
          have hL_72 : ∀ (n_5 : Nat) (x_1 : Int32) (x_2 : Int32) (hp_3 : zHp) (nx_4 : Nat) (H : Heap) (locs : List Loc) (ls : Array Slot), I_72 n_5 x_1 x_2 hp_3 nx_4 → lv_has ls 4 [(0, va_rf (some h0)), (1, .int x1), (2, .int x_1), (3, .int x_2)] → zHd g hp_3 H → H.size = nx_4 → va_S (zAd g) s.heap H locs → W p l e (zrm (d + 1) 0 0) s m ([.ref h0, .int x1] : List Value).toArray below meth c H locs 0 0 (MQ below (zQi g Post) ([.ref h0, .int x1] : List Value).toArray s 0 0 (zAd g)) (F0 m 72 ls []) := by
            intro n_5
            induction n_5 using Nat.strongRecOn with
            | _ n_5 ih_72 =>
              intro x_1 x_2 hp_3 nx_4 H locs ls hw hl hH hz hS
              have hw := hB_72 n_5 x_1 x_2 hp_3 nx_4 hw
              refine lv_iload_n hx hb dX5_count_72 rfl (lv_at hl 3 rfl) ?_
              refine lv_bipush (v := (6 : Int32)) hx hb dX5_count_73 (by decide) ?_
              refine lv_icmp_ge (tgt := 96) hx hb dX5_count_75 (by decide) (fun hc => ?_) (fun hc => ?_)
              · have hw := hw.1 hc
                refine lv_iload_n hx hb dX5_count_96 rfl (lv_at hl 2 rfl) ?_
                exact zr_iret hk hr hH hz hS hw (Nat.le_of_ble_eq_true rfl) (Nat.le_of_ble_eq_true rfl) dX5_count_97
              · have hw := hw.2 hc
                refine zr_aload_n (r := some h0) hx hb dX5_count_78 rfl (lv_at hl 0 rfl) ?_
                obtain ⟨a_6, ci_7, fs_8, r_9, er, he, hc, hv, hw⟩ := zgR_e hw
                refine zw_get hk hH er he hv (fk_X5_34 hc) dX5_count_79 ?_
                refine lv_iload_n hx hb dX5_count_82 rfl (lv_at hl 3 rfl) ?_
                obtain ⟨a_10, n_11, f_12, er, he, hi, hw⟩ := zaI_e hw
                have hw := hw _ rfl
                refine zw_zald hk hH er he hi dX5_count_83 ?_
                generalize f_12 x_2.toNatClampNeg = x_13 at hw ⊢
                obtain ⟨P_90, hP_90, hw⟩ := hw
                have hJ_90 : ∀ (x_14 : Int32) (x_15 : Int32) (hp_16 : zHp) (nx_17 : Nat) (H : Heap) (locs : List Loc) (ls : Array Slot), P_90 x_14 x_15 hp_16 nx_17 → lv_has ls 4 [(0, va_rf (some h0)), (1, .int x1), (2, .int x_14), (3, .int x_15)] → zHd g hp_16 H → H.size = nx_17 → va_S (zAd g) s.heap H locs → W p l e (zrm (d + 1) 0 0) s m ([.ref h0, .int x1] : List Value).toArray below meth c H locs 0 0 (MQ below (zQi g Post) ([.ref h0, .int x1] : List Value).toArray s 0 0 (zAd g)) (F0 m 90 ls []) := by
                  intro x_14 x_15 hp_16 nx_17 H locs ls hw hl hH hz hS
                  have hw := hP_90 x_14 x_15 hp_16 nx_17 hw
                  obtain ⟨x_18, ex_18⟩ : ∃ y : Int32, y = x_15 + (1 : Int32) := ⟨_, rfl⟩
                  have hw := hw x_18 ex_18
                  refine lv_iinc (v := x_18) (lv' := [(3, .int x_18), (0, va_rf (some h0)), (1, .int x1), (2, .int x_14)]) hx hb dX5_count_90 hl (k := 3) rfl (by rw [ex_18]; rfl) (by decide) (by first | rfl | simp [List.filter_cons, z_cat, z_catI, z_catJ, z_catF, z_catD]) (fun ls hl => ?_)
                  refine lv_goto (tgt := 72) hx hb dX5_count_93 (by decide) ?_
                  obtain ⟨k_19, hlt, hw⟩ := hw
                  exact ih_72 k_19 hlt x_14 x_18 hp_16 nx_17 _ _ _ hw (lv_sub hl [1, 2, 3, 0] rfl) hH hz hS
                refine lv_if_eq (tgt := 90) hx hb dX5_count_84 (by decide) (fun hc => ?_) (fun hc => ?_)
                · have hw := hw.1 hc
                  exact hJ_90 x_1 x_2 hp_3 nx_4 _ _ _ hw hl hH hz hS
                · have hw := hw.2 hc
                  obtain ⟨x_20, ex_20⟩ : ∃ y : Int32, y = x_1 + (1 : Int32) := ⟨_, rfl⟩
                  have hw := hw x_20 ex_20
                  refine lv_iinc (v := x_20) (lv' := [(2, .int x_20), (0, va_rf (some h0)), (1, .int x1), (3, .int x_2)]) hx hb dX5_count_87 hl (k := 2) rfl (by rw [ex_20]; rfl) (by decide) (by first | rfl | simp [List.filter_cons, z_cat, z_catI, z_catJ, z_catF, z_catD]) (fun ls hl => ?_)
                  exact hJ_90 x_20 x_2 hp_3 nx_4 _ _ _ hw (lv_sub hl [1, 2, 0, 3] rfl) hH hz hS
          exact hL_72 n_21 (0 : Int32) (0 : Int32) hp nx _ _ _ hI (lv_sub hl [2, 3, 1, 0] rfl) hH hz hS
        · have hw := hw.2 hc
          refine lv_bipush (v := (-2 : Int32)) hx hb dX5_count_67 (by decide) ?_
          exact zr_iret hk hr hH hz hS hw (Nat.le_of_ble_eq_true rfl) (Nat.le_of_ble_eq_true rfl) dX5_count_69
      · have hw := hw.1 hc
        refine lv_iconst (v := (0 : Int32)) hx hb dX5_count_26 (by decide) ?_
        refine lv_istore_n (i := 3) (lv' := [(3, .int (0 : Int32)), (2, .int (0 : Int32)), (0, va_rf (some h0)), (1, .int x1)]) hx hb dX5_count_27 rfl hl (by decide) (by first | rfl | simp [List.filter_cons, z_cat, z_catI, z_catJ, z_catF, z_catD]) (fun ls hl => ?_)
        obtain ⟨I_28, ⟨n_48, hI⟩, hB_28⟩ := hw
        have hL_28 : ∀ (n_26 : Nat) (x_22 : Int32) (x_23 : Int32) (hp_24 : zHp) (nx_25 : Nat) (H : Heap) (locs : List Loc) (ls : Array Slot), I_28 n_26 x_22 x_23 hp_24 nx_25 → lv_has ls 4 [(0, va_rf (some h0)), (1, .int x1), (2, .int x_22), (3, .int x_23)] → zHd g hp_24 H → H.size = nx_25 → va_S (zAd g) s.heap H locs → W p l e (zrm (d + 1) 0 0) s m ([.ref h0, .int x1] : List Value).toArray below meth c H locs 0 0 (MQ below (zQi g Post) ([.ref h0, .int x1] : List Value).toArray s 0 0 (zAd g)) (F0 m 28 ls []) := by
          intro n_26
          induction n_26 using Nat.strongRecOn with
          | _ n_26 ih_28 =>
            intro x_22 x_23 hp_24 nx_25 H locs ls hw hl hH hz hS
            have hw := hB_28 n_26 x_22 x_23 hp_24 nx_25 hw
            refine lv_iload_n hx hb dX5_count_28 rfl (lv_at hl 3 rfl) ?_
            refine lv_bipush (v := (24 : Int32)) hx hb dX5_count_29 (by decide) ?_
            refine lv_icmp_ge (tgt := 60) hx hb dX5_count_31 (by decide) (fun hc => ?_) (fun hc => ?_)
            · have hw := hw.1 hc
              refine lv_iload_n hx hb dX5_count_60 rfl (lv_at hl 2 rfl) ?_
              exact zr_iret hk hr hH hz hS hw (Nat.le_of_ble_eq_true rfl) (Nat.le_of_ble_eq_true rfl) dX5_count_61
            · have hw := hw.2 hc
              refine zr_aload_n (r := some h0) hx hb dX5_count_34 rfl (lv_at hl 0 rfl) ?_
              refine lv_iload_n hx hb dX5_count_35 rfl (lv_at hl 3 rfl) ?_
              obtain ⟨a_45, ci_46, fs_47, er, he, hc, hw⟩ := zo_e hw
              obtain rfl := List.mem_singleton.mp hc
              refine zr_calli (zw_runV (As := [.int x_23]) hk hH hz hS hl.1 er hw (cwV 1 hts (lw_V q2919 q2921 qs69 q162 q2922) rfl rfl rfl (by decide +kernel) (z_room (Nat.le_of_ble_eq_true rfl))) he rfl rfl rfl (Nat.le_of_ble_eq_true rfl) dX5_count_36 ⟨Nat.le_of_ble_eq_true rfl, Nat.le_of_ble_eq_true rfl⟩) hS (fun x_29 hp_27 nx_28 hw H locs hH hz hS => ?_)
              obtain ⟨P_54, hP_54, hw⟩ := hw
              have hJ_54 : ∀ (x_30 : Int32) (x_31 : Int32) (hp_32 : zHp) (nx_33 : Nat) (H : Heap) (locs : List Loc) (ls : Array Slot), P_54 x_30 x_31 hp_32 nx_33 → lv_has ls 4 [(0, va_rf (some h0)), (1, .int x1), (2, .int x_30), (3, .int x_31)] → zHd g hp_32 H → H.size = nx_33 → va_S (zAd g) s.heap H locs → W p l e (zrm (d + 1) 0 0) s m ([.ref h0, .int x1] : List Value).toArray below meth c H locs 0 0 (MQ below (zQi g Post) ([.ref h0, .int x1] : List Value).toArray s 0 0 (zAd g)) (F0 m 54 ls []) := by
                intro x_30 x_31 hp_32 nx_33 H locs ls hw hl hH hz hS
                have hw := hP_54 x_30 x_31 hp_32 nx_33 hw
                obtain ⟨x_34, ex_34⟩ : ∃ y : Int32, y = x_31 + (1 : Int32) := ⟨_, rfl⟩
                have hw := hw x_34 ex_34
                refine lv_iinc (v := x_34) (lv' := [(3, .int x_34), (0, va_rf (some h0)), (1, .int x1), (2, .int x_30)]) hx hb dX5_count_54 hl (k := 3) rfl (by rw [ex_34]; rfl) (by decide) (by first | rfl | simp [List.filter_cons, z_cat, z_catI, z_catJ, z_catF, z_catD]) (fun ls hl => ?_)
                refine lv_goto (tgt := 28) hx hb dX5_count_57 (by decide) ?_
                obtain ⟨k_35, hlt, hw⟩ := hw
                exact ih_28 k_35 hlt x_30 x_34 hp_32 nx_33 _ _ _ hw (lv_sub hl [1, 2, 3, 0] rfl) hH hz hS
              refine lv_if_eq (tgt := 54) hx hb dX5_count_39 (by decide) (fun hc => ?_) (fun hc => ?_)
              · have hw := hw.1 hc
                exact hJ_54 x_22 x_23 hp_27 nx_28 _ _ _ hw hl hH hz hS
              · have hw := hw.2 hc
                refine zr_aload_n (r := some h0) hx hb dX5_count_42 rfl (lv_at hl 0 rfl) ?_
                obtain ⟨a_36, ci_37, fs_38, r_39, er, he, hc, hv, hw⟩ := zgR_e hw
                refine zw_get hk hH er he hv (fk_X5_13 hc) dX5_count_43 ?_
                refine lv_iload_n hx hb dX5_count_46 rfl (lv_at hl 3 rfl) ?_
                obtain ⟨a_40, n_41, f_42, er, he, hi, hw⟩ := zaI_e hw
                have hw := hw _ rfl
                refine zw_zald hk hH er he hi dX5_count_47 ?_
                generalize f_42 x_23.toNatClampNeg = x_43 at hw ⊢
                refine lv_if_eq (tgt := 54) hx hb dX5_count_48 (by decide) (fun hc => ?_) (fun hc => ?_)
                · have hw := hw.1 hc
                  exact hJ_54 x_22 x_23 hp_27 nx_28 _ _ _ hw hl hH hz hS
                · have hw := hw.2 hc
                  obtain ⟨x_44, ex_44⟩ : ∃ y : Int32, y = x_22 + (1 : Int32) := ⟨_, rfl⟩
                  have hw := hw x_44 ex_44
                  refine lv_iinc (v := x_44) (lv' := [(2, .int x_44), (0, va_rf (some h0)), (1, .int x1), (3, .int x_23)]) hx hb dX5_count_51 hl (k := 2) rfl (by rw [ex_44]; rfl) (by decide) (by first | rfl | simp [List.filter_cons, z_cat, z_catI, z_catJ, z_catF, z_catD]) (fun ls hl => ?_)
                  exact hJ_54 x_44 x_23 hp_27 nx_28 _ _ _ hw (lv_sub hl [1, 2, 0, 3] rfl) hH hz hS
        exact hL_28 n_48 (0 : Int32) (0 : Int32) hp nx _ _ _ hI (lv_sub hl [2, 3, 1, 0] rfl) hH hz hS
    · have hw := hw.1 hc
      refine zr_aload_n (r := some h0) hx hb dX5_count_16 rfl (lv_at hl 1 rfl) ?_
      obtain ⟨a_49, ci_50, fs_51, x_52, er, he, hc, hv, hw⟩ := zgI_e hw
      refine zw_get hk hH er he hv (fk_X5_348 hc) dX5_count_17 ?_
      exact zr_iret hk hr hH hz hS hw (Nat.le_of_ble_eq_true rfl) (Nat.le_of_ble_eq_true rfl) dX5_count_20
  · have hw := hw.1 hc
    refine zr_aload_n (r := some h0) hx hb dX5_count_6 rfl (lv_at hl 1 rfl) ?_
    obtain ⟨a_56, ci_57, fs_58, er, he, hc, hw⟩ := zo_e hw
    obtain rfl := List.mem_singleton.mp hc
    refine zr_calli (zw_runV (As := []) hk hH hz hS hl.1 er hw (cwV 0 hts (lw_V q3314 q3316 qs128 q162 q3317) rfl rfl rfl (by decide +kernel) (z_room (Nat.le_of_ble_eq_true rfl))) he rfl rfl rfl (Nat.le_of_ble_eq_true rfl) dX5_count_7 ⟨Nat.le_of_ble_eq_true rfl, Nat.le_of_ble_eq_true rfl⟩) hS (fun x_55 hp_53 nx_54 hw H locs hH hz hS => ?_)
    exact zr_iret hk hr hH hz hS hw (Nat.le_of_ble_eq_true rfl) (Nat.le_of_ble_eq_true rfl) dX5_count_10
def wp_X5_row (l : Launch) (g : zG) (d : Nat) (h0 : Nat) (x1 : Int32) (x2 : Int32) (x3 : Int32) (hp : zHp) (nx : Nat) (Post : Int32 → zHp → Nat → Prop) : Prop :=
  (zMt l g yX5_isRow cX5_isRow 1 (some .boolean) d 0 0 [.int x1] hp nx (zQi g fun x_3 hp_1 nx_2 =>
  (∃ P_26 : zHp → Nat → Prop, (∀ (hp_4 : zHp) (nx_5 : Nat), P_26 hp_4 nx_5 →
  (Post (-2 : Int32) hp_4 nx_5)) ∧
  ((x_3 = 0 →
  P_26 hp_1 nx_2) ∧
  (¬ x_3 = 0 →
  (zMt l g yX5_in cX5_in 3 (some .boolean) d 0 0 [.int x2, .int (-1 : Int32), .int (3 : Int32)] hp_1 nx_2 (zQi g fun x_8 hp_6 nx_7 =>
  ((x_8 = 0 →
  P_26 hp_6 nx_7) ∧
  (¬ x_8 = 0 →
  (∃ P_29 : zHp → Nat → Prop, (∀ (hp_9 : zHp) (nx_10 : Nat), P_29 hp_9 nx_10 →
  (∃ P_40 : zHp → Nat → Prop, (∀ (hp_11 : zHp) (nx_12 : Nat), P_40 hp_11 nx_12 →
  (zgR hp_11 (some h0) [5] 70 fun r_16 =>
  (zaI (g.2.1 0) hp_11 r_16 fun a_17 n_18 f_19 => vp_in x1 n_18 ∧ zB g ≤ a_17 ∧ ∀ hp_20 : zHp, hp_20 = va_up hp_11 a_17 (some (.inl (g.2.1 0, n_18, .inl (va_up f_19 x1.toNatClampNeg x2)))) →
  (zgR hp_20 (some h0) [5] 71 fun r_24 =>
  (∃ P_61 : (Option Nat) → Int32 → Int32 → zHp → Nat → Prop, (∀ (r_25 : Option Nat) (x_26 : Int32) (x_27 : Int32) (hp_28 : zHp) (nx_29 : Nat), P_61 r_25 x_26 x_27 hp_28 nx_29 →
  (zaI (g.2.1 0) hp_28 r_25 fun a_30 n_31 f_32 => vp_in x_26 n_31 ∧ zB g ≤ a_30 ∧ ∀ hp_33 : zHp, hp_33 = va_up hp_28 a_30 (some (.inl (g.2.1 0, n_31, .inl (va_up f_32 x_26.toNatClampNeg x_27)))) →
  (∃ I_65 : Nat → Int32 → zHp → Nat → Prop, (∃ n_64, I_65 n_64 (0 : Int32) hp_33 nx_29) ∧ ∀ (n_37 : Nat) (x_34 : Int32) (hp_35 : zHp) (nx_36 : Nat), I_65 n_37 x_34 hp_35 nx_36 →
  (((64 : Int32) ≤ x_34 →
  (Post (1 : Int32) hp_35 nx_36)) ∧
  (¬ (64 : Int32) ≤ x_34 →
  (zgR hp_35 (some h0) [5] 72 fun r_41 =>
  (zaR (g.2.1 15) hp_35 r_41 fun a_42 n_43 f_44 => vp_in x1 n_43 ∧ ∀ r_45 : Option Nat, r_45 = f_44 x1.toNatClampNeg →
  (zaD (g.2.1 1) hp_35 r_45 fun a_46 n_47 f_48 => vp_in x_34 n_47 ∧ zB g ≤ a_46 ∧ ∀ hp_49 : zHp, hp_49 = va_up hp_35 a_46 (some (.inl (g.2.1 1, n_47, .inr (.inr (.inr (.inl (va_up f_48 x_34.toNatClampNeg FP.dconst0))))))) →
  (zgR hp_49 (some h0) [5] 73 fun r_53 =>
  (zaR (g.2.1 16) hp_49 r_53 fun a_54 n_55 f_56 => vp_in x1 n_55 ∧ ∀ r_57 : Option Nat, r_57 = f_56 x1.toNatClampNeg →
  (zaI (g.2.1 3) hp_49 r_57 fun a_58 n_59 f_60 => vp_in x_34 n_59 ∧ zB g ≤ a_58 ∧ ∀ hp_61 : zHp, hp_61 = va_up hp_49 a_58 (some (.inl (g.2.1 3, n_59, .inl (va_up f_60 x_34.toNatClampNeg (vp_nar .boolean (0 : Int32)))))) →
  (∀ x_62 : Int32, x_62 = x_34 + (1 : Int32) →
  (∃ k_63, k_63 < n_37 ∧ I_65 k_63 x_62 hp_61 nx_36))))))))))))) ∧
  ((0 ≤ x2 →
  P_61 r_24 x1 x3 hp_20 nx_12) ∧
  (¬ 0 ≤ x2 →
  P_61 r_24 x1 (0 : Int32) hp_20 nx_12))))))) ∧
  ((x2 < 0 →
  P_40 hp_9 nx_10) ∧
  (¬ x2 < 0 →
  ((0 ≤ x3 →
  P_40 hp_9 nx_10) ∧
  (¬ 0 ≤ x3 →
  (Post (-14 : Int32) hp_9 nx_10))))))) ∧
  ((x2 < 0 →
  P_29 hp_6 nx_7) ∧
  (¬ x2 < 0 →
  ((x3 ≤ (64 : Int32) →
  P_29 hp_6 nx_7) ∧
  (¬ x3 ≤ (64 : Int32) →
  P_26 hp_6 nx_7))))))))))))))
set_option maxHeartbeats 40000000 in
theorem met_X5_row {l : Launch} {g : zG} {d : Nat} {h0 : Nat} {x1 : Int32} {x2 : Int32} {x3 : Int32} {hp : zHp} {nx : Nat} {Post : Int32 → zHp → Nat → Prop} (hw : wp_X5_row l g d h0 x1 x2 x3 hp nx Post) : zMt l g yX5_row cX5_row 5 (some .int) (d + 1) 0 0 [.ref h0, .int x1, .int x2, .int x3] hp nx (zQi g Post) := by
  refine z_start (by decide) (Nat.le_of_ble_eq_true rfl) ?_
  intro p e s m below meth c hk hr hin hH hz ls hl
  have hx := hk.1.1
  have hb := hk.1.2.1
  have hown := hk.1.2.2.2.1
  have hts := hk.1.2.2.2.2
  have hS : va_S (zAd g) s.heap s.heap [] := va_S.rf
  have hl : lv_has ls 5 [(0, va_rf (some h0)), (1, .int x1), (2, .int x2), (3, .int x3)] := hl
  unfold wp_X5_row at hw
  refine lv_iload_n hx hb dX5_row_0 rfl (lv_at hl 1 rfl) ?_
  refine zr_calli (zr_runS (As := [.int x1]) hk hH hz hS hl.1 hw (va_cwS 1 hts (lw_S q3198 q3199 q162 q3200) rfl rfl rfl (by decide +kernel) (z_room (Nat.le_of_ble_eq_true rfl))) rfl rfl (Nat.le_of_ble_eq_true rfl) dX5_row_1 ⟨Nat.le_of_ble_eq_true rfl, Nat.le_of_ble_eq_true rfl⟩) hS (fun x_3 hp_1 nx_2 hw H locs hH hz hS => ?_)
  obtain ⟨P_26, hP_26, hw⟩ := hw
  have hJ_26 : ∀ (hp_4 : zHp) (nx_5 : Nat) (H : Heap) (locs : List Loc) (ls : Array Slot), P_26 hp_4 nx_5 → lv_has ls 5 [(0, va_rf (some h0)), (1, .int x1), (2, .int x2), (3, .int x3)] → zHd g hp_4 H → H.size = nx_5 → va_S (zAd g) s.heap H locs → W p l e (zrm (d + 1) 0 0) s m ([.ref h0, .int x1, .int x2, .int x3] : List Value).toArray below meth c H locs 0 0 (MQ below (zQi g Post) ([.ref h0, .int x1, .int x2, .int x3] : List Value).toArray s 0 0 (zAd g)) (F0 m 26 ls []) := by
    intro hp_4 nx_5 H locs ls hw hl hH hz hS
    have hw := hP_26 hp_4 nx_5 hw
    refine lv_bipush (v := (-2 : Int32)) hx hb dX5_row_26 (by decide) ?_
    exact zr_iret hk hr hH hz hS hw (Nat.le_of_ble_eq_true rfl) (Nat.le_of_ble_eq_true rfl) dX5_row_28
  refine lv_if_eq (tgt := 26) hx hb dX5_row_4 (by decide) (fun hc => ?_) (fun hc => ?_)
  · have hw := hw.1 hc
    exact hJ_26 hp_1 nx_2 _ _ _ hw hl hH hz hS
  · have hw := hw.2 hc
    refine lv_iload_n hx hb dX5_row_7 rfl (lv_at hl 2 rfl) ?_
    refine lv_iconst (v := (-1 : Int32)) hx hb dX5_row_8 (by decide) ?_
    refine lv_iconst (v := (3 : Int32)) hx hb dX5_row_9 (by decide) ?_
    refine zr_calli (zr_runS (As := [.int x2, .int (-1 : Int32), .int (3 : Int32)]) hk hH hz hS hl.1 hw (va_cwS 3 hts (lw_S q2911 q2912 q162 q2913) rfl rfl rfl (by decide +kernel) (z_room (Nat.le_of_ble_eq_true rfl))) rfl rfl (Nat.le_of_ble_eq_true rfl) dX5_row_10 ⟨Nat.le_of_ble_eq_true rfl, Nat.le_of_ble_eq_true rfl⟩) hS (fun x_8 hp_6 nx_7 hw H locs hH hz hS => ?_)
    refine lv_if_eq (tgt := 26) hx hb dX5_row_13 (by decide) (fun hc => ?_) (fun hc => ?_)
    · have hw := hw.1 hc
      exact hJ_26 hp_6 nx_7 _ _ _ hw hl hH hz hS
    · have hw := hw.2 hc
      refine lv_iload_n hx hb dX5_row_16 rfl (lv_at hl 2 rfl) ?_
      obtain ⟨P_29, hP_29, hw⟩ := hw
      have hJ_29 : ∀ (hp_9 : zHp) (nx_10 : Nat) (H : Heap) (locs : List Loc) (ls : Array Slot), P_29 hp_9 nx_10 → lv_has ls 5 [(0, va_rf (some h0)), (1, .int x1), (2, .int x2), (3, .int x3)] → zHd g hp_9 H → H.size = nx_10 → va_S (zAd g) s.heap H locs → W p l e (zrm (d + 1) 0 0) s m ([.ref h0, .int x1, .int x2, .int x3] : List Value).toArray below meth c H locs 0 0 (MQ below (zQi g Post) ([.ref h0, .int x1, .int x2, .int x3] : List Value).toArray s 0 0 (zAd g)) (F0 m 29 ls []) := by
        intro hp_9 nx_10 H locs ls hw hl hH hz hS
        have hw := hP_29 hp_9 nx_10 hw
        refine lv_iload_n hx hb dX5_row_29 rfl (lv_at hl 2 rfl) ?_
        obtain ⟨P_40, hP_40, hw⟩ := hw
        have hJ_40 : ∀ (hp_11 : zHp) (nx_12 : Nat) (H : Heap) (locs : List Loc) (ls : Array Slot), P_40 hp_11 nx_12 → lv_has ls 5 [(0, va_rf (some h0)), (1, .int x1), (2, .int x2), (3, .int x3)] → zHd g hp_11 H → H.size = nx_12 → va_S (zAd g) s.heap H locs → W p l e (zrm (d + 1) 0 0) s m ([.ref h0, .int x1, .int x2, .int x3] : List Value).toArray below meth c H locs 0 0 (MQ below (zQi g Post) ([.ref h0, .int x1, .int x2, .int x3] : List Value).toArray s 0 0 (zAd g)) (F0 m 40 ls []) := by
          intro hp_11 nx_12 H locs ls hw hl hH hz hS
          have hw := hP_40 hp_11 nx_12 hw
          refine zr_aload_n (r := some h0) hx hb dX5_row_40 rfl (lv_at hl 0 rfl) ?_
          obtain ⟨a_13, ci_14, fs_15, r_16, er, he, hc, hv, hw⟩ := zgR_e hw
          refine zw_get hk hH er he hv (fk_X5_165 hc) dX5_row_41 ?_
          refine lv_iload_n hx hb dX5_row_44 rfl (lv_at hl 1 rfl) ?_
          refine lv_iload_n hx hb dX5_row_45 rfl (lv_at hl 2 rfl) ?_
          obtain ⟨a_17, n_18, f_19, er, he, hi, hA, hw⟩ := zaI_e hw
          obtain ⟨hp_20, eh⟩ : ∃ y : zHp, y = va_up hp_11 a_17 (some (.inl (g.2.1 0, n_18, .inl (va_up f_19 x1.toNatClampNeg x2)))) := ⟨_, rfl⟩
          have hw := hw hp_20 eh
          refine zw_iast hk hH hz hS er he hi hA eh dX5_row_46 (fun H locs hH hz hS => ?_)
          refine zr_aload_n (r := some h0) hx hb dX5_row_47 rfl (lv_at hl 0 rfl) ?_
          obtain ⟨a_21, ci_22, fs_23, r_24, er, he, hc, hv, hw⟩ := zgR_e hw
          refine zw_get hk hH er he hv (fk_X5_168 hc) dX5_row_48 ?_
          refine lv_iload_n hx hb dX5_row_51 rfl (lv_at hl 1 rfl) ?_
          refine lv_iload_n hx hb dX5_row_52 rfl (lv_at hl 2 rfl) ?_
          obtain ⟨P_61, hP_61, hw⟩ := hw
          have hJ_61 : ∀ (r_25 : Option Nat) (x_26 : Int32) (x_27 : Int32) (hp_28 : zHp) (nx_29 : Nat) (H : Heap) (locs : List Loc) (ls : Array Slot), P_61 r_25 x_26 x_27 hp_28 nx_29 → lv_has ls 5 [(0, va_rf (some h0)), (1, .int x1), (2, .int x2), (3, .int x3)] → zHd g hp_28 H → H.size = nx_29 → va_S (zAd g) s.heap H locs → W p l e (zrm (d + 1) 0 0) s m ([.ref h0, .int x1, .int x2, .int x3] : List Value).toArray below meth c H locs 0 0 (MQ below (zQi g Post) ([.ref h0, .int x1, .int x2, .int x3] : List Value).toArray s 0 0 (zAd g)) (F0 m 61 ls [.int x_27, .int x_26, va_rf r_25]) := by
            intro r_25 x_26 x_27 hp_28 nx_29 H locs ls hw hl hH hz hS
            have hw := hP_61 r_25 x_26 x_27 hp_28 nx_29 hw
            obtain ⟨a_30, n_31, f_32, er, he, hi, hA, hw⟩ := zaI_e hw
            obtain ⟨hp_33, eh⟩ : ∃ y : zHp, y = va_up hp_28 a_30 (some (.inl (g.2.1 0, n_31, .inl (va_up f_32 x_26.toNatClampNeg x_27)))) := ⟨_, rfl⟩
            have hw := hw hp_33 eh
            refine zw_iast hk hH hz hS er he hi hA eh dX5_row_61 (fun H locs hH hz hS => ?_)
            refine lv_iconst (v := (0 : Int32)) hx hb dX5_row_62 (by decide) ?_
            refine lv_istore (lv' := [(4, .int (0 : Int32)), (0, va_rf (some h0)), (1, .int x1), (2, .int x2), (3, .int x3)]) hx hb dX5_row_63 hl (by decide) (by first | rfl | simp [List.filter_cons, z_cat, z_catI, z_catJ, z_catF, z_catD]) (fun ls hl => ?_)
            obtain ⟨I_65, ⟨n_64, hI⟩, hB_65⟩ := hw
            have hL_65 : ∀ (n_37 : Nat) (x_34 : Int32) (hp_35 : zHp) (nx_36 : Nat) (H : Heap) (locs : List Loc) (ls : Array Slot), I_65 n_37 x_34 hp_35 nx_36 → lv_has ls 5 [(0, va_rf (some h0)), (1, .int x1), (2, .int x2), (3, .int x3), (4, .int x_34)] → zHd g hp_35 H → H.size = nx_36 → va_S (zAd g) s.heap H locs → W p l e (zrm (d + 1) 0 0) s m ([.ref h0, .int x1, .int x2, .int x3] : List Value).toArray below meth c H locs 0 0 (MQ below (zQi g Post) ([.ref h0, .int x1, .int x2, .int x3] : List Value).toArray s 0 0 (zAd g)) (F0 m 65 ls []) := by
              intro n_37
              induction n_37 using Nat.strongRecOn with
              | _ n_37 ih_65 =>
                intro x_34 hp_35 nx_36 H locs ls hw hl hH hz hS
                have hw := hB_65 n_37 x_34 hp_35 nx_36 hw
                refine lv_iload hx hb dX5_row_65 (lv_at hl 4 rfl) ?_
                refine lv_bipush (v := (64 : Int32)) hx hb dX5_row_67 (by decide) ?_
                refine lv_icmp_ge (tgt := 98) hx hb dX5_row_69 (by decide) (fun hc => ?_) (fun hc => ?_)
                · have hw := hw.1 hc
                  refine lv_iconst (v := (1 : Int32)) hx hb dX5_row_98 (by decide) ?_
                  exact zr_iret hk hr hH hz hS hw (Nat.le_of_ble_eq_true rfl) (Nat.le_of_ble_eq_true rfl) dX5_row_99
                · have hw := hw.2 hc
                  refine zr_aload_n (r := some h0) hx hb dX5_row_72 rfl (lv_at hl 0 rfl) ?_
                  obtain ⟨a_38, ci_39, fs_40, r_41, er, he, hc, hv, hw⟩ := zgR_e hw
                  refine zw_get hk hH er he hv (fk_X5_171 hc) dX5_row_73 ?_
                  refine lv_iload_n hx hb dX5_row_76 rfl (lv_at hl 1 rfl) ?_
                  obtain ⟨a_42, n_43, f_44, er, he, hi, hw⟩ := zaR_e hw
                  have hw := hw _ rfl
                  refine zw_aald hk hH 15 er he rfl rfl hi dX5_row_77 ?_
                  generalize f_44 x1.toNatClampNeg = r_45 at hw ⊢
                  refine lv_iload hx hb dX5_row_78 (lv_at hl 4 rfl) ?_
                  refine lv_dconst0 hx hb dX5_row_80 ?_
                  obtain ⟨a_46, n_47, f_48, er, he, hi, hA, hw⟩ := zaD_e hw
                  obtain ⟨hp_49, eh⟩ : ∃ y : zHp, y = va_up hp_35 a_46 (some (.inl (g.2.1 1, n_47, .inr (.inr (.inr (.inl (va_up f_48 x_34.toNatClampNeg FP.dconst0))))))) := ⟨_, rfl⟩
                  have hw := hw hp_49 eh
                  refine zw_dast hk hH hz hS er he hi hA eh dX5_row_81 (fun H locs hH hz hS => ?_)
                  refine zr_aload_n (r := some h0) hx hb dX5_row_82 rfl (lv_at hl 0 rfl) ?_
                  obtain ⟨a_50, ci_51, fs_52, r_53, er, he, hc, hv, hw⟩ := zgR_e hw
                  refine zw_get hk hH er he hv (fk_X5_174 hc) dX5_row_83 ?_
                  refine lv_iload_n hx hb dX5_row_86 rfl (lv_at hl 1 rfl) ?_
                  obtain ⟨a_54, n_55, f_56, er, he, hi, hw⟩ := zaR_e hw
                  have hw := hw _ rfl
                  refine zw_aald hk hH 16 er he rfl rfl hi dX5_row_87 ?_
                  generalize f_56 x1.toNatClampNeg = r_57 at hw ⊢
                  refine lv_iload hx hb dX5_row_88 (lv_at hl 4 rfl) ?_
                  refine lv_iconst (v := (0 : Int32)) hx hb dX5_row_90 (by decide) ?_
                  obtain ⟨a_58, n_59, f_60, er, he, hi, hA, hw⟩ := zaI_e hw
                  obtain ⟨hp_61, eh⟩ : ∃ y : zHp, y = va_up hp_49 a_58 (some (.inl (g.2.1 3, n_59, .inl (va_up f_60 x_34.toNatClampNeg (vp_nar .boolean (0 : Int32)))))) := ⟨_, rfl⟩
                  have hw := hw hp_61 eh
                  refine zw_zast hk hH hz hS er he hi hA eh dX5_row_91 (fun H locs hH hz hS => ?_)
                  obtain ⟨x_62, ex_62⟩ : ∃ y : Int32, y = x_34 + (1 : Int32) := ⟨_, rfl⟩
                  have hw := hw x_62 ex_62
                  refine lv_iinc (v := x_62) (lv' := [(4, .int x_62), (0, va_rf (some h0)), (1, .int x1), (2, .int x2), (3, .int x3)]) hx hb dX5_row_92 hl (k := 4) rfl (by rw [ex_62]; rfl) (by decide) (by first | rfl | simp [List.filter_cons, z_cat, z_catI, z_catJ, z_catF, z_catD]) (fun ls hl => ?_)
                  refine lv_goto (tgt := 65) hx hb dX5_row_95 (by decide) ?_
                  obtain ⟨k_63, hlt, hw⟩ := hw
                  exact ih_65 k_63 hlt x_62 hp_61 nx_36 _ _ _ hw (lv_sub hl [1, 2, 3, 4, 0] rfl) hH hz hS
            exact hL_65 n_64 (0 : Int32) hp_33 nx_29 _ _ _ hI (lv_sub hl [1, 2, 3, 4, 0] rfl) hH hz hS
          refine lv_if_ge (tgt := 60) hx hb dX5_row_53 (by decide) (fun hc => ?_) (fun hc => ?_)
          · have hw := hw.1 hc
            refine lv_iload_n hx hb dX5_row_60 rfl (lv_at hl 3 rfl) ?_
            exact hJ_61 r_24 x1 x3 hp_20 nx_12 _ _ _ hw hl hH hz hS
          · have hw := hw.2 hc
            refine lv_iconst (v := (0 : Int32)) hx hb dX5_row_56 (by decide) ?_
            refine lv_goto (tgt := 61) hx hb dX5_row_57 (by decide) ?_
            exact hJ_61 r_24 x1 (0 : Int32) hp_20 nx_12 _ _ _ hw hl hH hz hS
        refine lv_if_lt (tgt := 40) hx hb dX5_row_30 (by decide) (fun hc => ?_) (fun hc => ?_)
        · have hw := hw.1 hc
          exact hJ_40 hp_9 nx_10 _ _ _ hw hl hH hz hS
        · have hw := hw.2 hc
          refine lv_iload_n hx hb dX5_row_33 rfl (lv_at hl 3 rfl) ?_
          refine lv_if_ge (tgt := 40) hx hb dX5_row_34 (by decide) (fun hc => ?_) (fun hc => ?_)
          · have hw := hw.1 hc
            exact hJ_40 hp_9 nx_10 _ _ _ hw hl hH hz hS
          · have hw := hw.2 hc
            refine lv_bipush (v := (-14 : Int32)) hx hb dX5_row_37 (by decide) ?_
            exact zr_iret hk hr hH hz hS hw (Nat.le_of_ble_eq_true rfl) (Nat.le_of_ble_eq_true rfl) dX5_row_39
      refine lv_if_lt (tgt := 29) hx hb dX5_row_17 (by decide) (fun hc => ?_) (fun hc => ?_)
      · have hw := hw.1 hc
        exact hJ_29 hp_6 nx_7 _ _ _ hw hl hH hz hS
      · have hw := hw.2 hc
        refine lv_iload_n hx hb dX5_row_20 rfl (lv_at hl 3 rfl) ?_
        refine lv_bipush (v := (64 : Int32)) hx hb dX5_row_21 (by decide) ?_
        refine lv_icmp_le (tgt := 29) hx hb dX5_row_23 (by decide) (fun hc => ?_) (fun hc => ?_)
        · have hw := hw.1 hc
          exact hJ_29 hp_6 nx_7 _ _ _ hw hl hH hz hS
        · have hw := hw.2 hc
          exact hJ_26 hp_6 nx_7 _ _ _ hw hl hH hz hS
def wp_X5_put (l : Launch) (g : zG) (d : Nat) (h0 : Nat) (x1 : Int32) (x2 : Int32) (x3 : Int32) (hp : zHp) (nx : Nat) (Post : Int32 → zHp → Nat → Prop) : Prop :=
  (zo hp (some h0) [5] fun a_58 ci_59 fs_60 => zMt l g yX5_itemRefusal cX5_itemRefusal 3 (some .int) d 0 0 (.ref a_58 :: [.int x1, .int x2]) hp nx (zQi g fun x_3 hp_1 nx_2 =>
  ((x_3 = 0 →
  (zgR hp_1 (some h0) [5] 72 fun r_7 =>
  (zaR (g.2.1 15) hp_1 r_7 fun a_8 n_9 f_10 => vp_in x1 n_9 ∧ ∀ r_11 : Option Nat, r_11 = f_10 x1.toNatClampNeg →
  (zgR hp_1 (some h0) [5] 70 fun r_15 =>
  (zaI (g.2.1 0) hp_1 r_15 fun a_16 n_17 f_18 => vp_in x1 n_17 ∧ ∀ x_19 : Int32, x_19 = f_18 x1.toNatClampNeg →
  (∃ P_80 : Int32 → (Option Nat) → Int32 → UInt64 → zHp → Nat → Prop, (∀ (x_20 : Int32) (r_21 : Option Nat) (x_22 : Int32) (x_23 : UInt64) (hp_24 : zHp) (nx_25 : Nat), P_80 x_20 r_21 x_22 x_23 hp_24 nx_25 →
  (zaD (g.2.1 1) hp_24 r_21 fun a_26 n_27 f_28 => vp_in x_22 n_27 ∧ zB g ≤ a_26 ∧ ∀ hp_29 : zHp, hp_29 = va_up hp_24 a_26 (some (.inl (g.2.1 1, n_27, .inr (.inr (.inr (.inl (va_up f_28 x_22.toNatClampNeg x_23))))))) →
  (zgR hp_29 (some h0) [5] 73 fun r_33 =>
  (zaR (g.2.1 16) hp_29 r_33 fun a_34 n_35 f_36 => vp_in x1 n_35 ∧ ∀ r_37 : Option Nat, r_37 = f_36 x1.toNatClampNeg →
  (zaI (g.2.1 3) hp_29 r_37 fun a_38 n_39 f_40 => vp_in x2 n_39 ∧ zB g ≤ a_38 ∧ ∀ hp_41 : zHp, hp_41 = va_up hp_29 a_38 (some (.inl (g.2.1 3, n_39, .inl (va_up f_40 x2.toNatClampNeg (vp_nar .boolean (0 : Int32)))))) →
  (Post (1 : Int32) hp_41 nx_25)))))) ∧
  ((x_19 = 0 →
  P_80 x_3 r_11 x2 (FP.i2d x3.toInt8.toInt32) hp_1 nx_2) ∧
  (¬ x_19 = 0 →
  (zgR hp_1 (some h0) [5] 70 fun r_45 =>
  (zaI (g.2.1 0) hp_1 r_45 fun a_46 n_47 f_48 => vp_in x1 n_47 ∧ ∀ x_49 : Int32, x_49 = f_48 x1.toNatClampNeg →
  ((x_49 = (1 : Int32) →
  P_80 x_3 r_11 x2 (FP.i2d x3) hp_1 nx_2) ∧
  (¬ x_49 = (1 : Int32) →
  (zgR hp_1 (some h0) [5] 70 fun r_53 =>
  (zaI (g.2.1 0) hp_1 r_53 fun a_54 n_55 f_56 => vp_in x1 n_55 ∧ ∀ x_57 : Int32, x_57 = f_56 x1.toNatClampNeg →
  ((x_57 = (2 : Int32) →
  (vf_n64 (FP.ddiv (FP.i2d x3) (4620693217682128896 : UInt64)) ∧ (vf_n32 (FP.d2f (FP.ddiv (FP.i2d x3) (4620693217682128896 : UInt64))) ∧ (vf_n64 (FP.f2d (FP.d2f (FP.ddiv (FP.i2d x3) (4620693217682128896 : UInt64)))) ∧ P_80 x_3 r_11 x2 (FP.f2d (FP.d2f (FP.ddiv (FP.i2d x3) (4620693217682128896 : UInt64)))) hp_1 nx_2)))) ∧
  (¬ x_57 = (2 : Int32) →
  (vf_n64 (FP.ddiv (FP.i2d x3) (4620693217682128896 : UInt64)) ∧ P_80 x_3 r_11 x2 (FP.ddiv (FP.i2d x3) (4620693217682128896 : UInt64)) hp_1 nx_2))))))))))))))))) ∧
  (¬ x_3 = 0 →
  (Post x_3 hp_1 nx_2)))))
set_option maxHeartbeats 40000000 in
theorem met_X5_put {l : Launch} {g : zG} {d : Nat} {h0 : Nat} {x1 : Int32} {x2 : Int32} {x3 : Int32} {hp : zHp} {nx : Nat} {Post : Int32 → zHp → Nat → Prop} (hw : wp_X5_put l g d h0 x1 x2 x3 hp nx Post) : zMt l g yX5_put cX5_put 5 (some .int) (d + 1) 0 0 [.ref h0, .int x1, .int x2, .int x3] hp nx (zQi g Post) := by
  refine z_start (by decide) (Nat.le_of_ble_eq_true rfl) ?_
  intro p e s m below meth c hk hr hin hH hz ls hl
  have hx := hk.1.1
  have hb := hk.1.2.1
  have hown := hk.1.2.2.2.1
  have hts := hk.1.2.2.2.2
  have hS : va_S (zAd g) s.heap s.heap [] := va_S.rf
  have hl : lv_has ls 5 [(0, va_rf (some h0)), (1, .int x1), (2, .int x2), (3, .int x3)] := hl
  unfold wp_X5_put at hw
  refine zr_aload_n (r := some h0) hx hb dX5_put_0 rfl (lv_at hl 0 rfl) ?_
  refine lv_iload_n hx hb dX5_put_1 rfl (lv_at hl 1 rfl) ?_
  refine lv_iload_n hx hb dX5_put_2 rfl (lv_at hl 2 rfl) ?_
  obtain ⟨a_58, ci_59, fs_60, er, he, hc, hw⟩ := zo_e hw
  obtain rfl := List.mem_singleton.mp hc
  refine zr_calli (zw_runV (As := [.int x1, .int x2]) hk hH hz hS hl.1 er hw (cwV 2 hts (lw_V q3334 q3336 qs129 q162 q3337) rfl rfl rfl (by decide +kernel) (z_room (Nat.le_of_ble_eq_true rfl))) he rfl rfl rfl (Nat.le_of_ble_eq_true rfl) dX5_put_3 ⟨Nat.le_of_ble_eq_true rfl, Nat.le_of_ble_eq_true rfl⟩) hS (fun x_3 hp_1 nx_2 hw H locs hH hz hS => ?_)
  refine lv_istore (lv' := [(4, .int x_3), (0, va_rf (some h0)), (1, .int x1), (2, .int x2), (3, .int x3)]) hx hb dX5_put_6 hl (by decide) (by first | rfl | simp [List.filter_cons, z_cat, z_catI, z_catJ, z_catF, z_catD]) (fun ls hl => ?_)
  refine lv_iload hx hb dX5_put_8 (lv_at hl 0 rfl) ?_
  refine lv_if_eq (tgt := 16) hx hb dX5_put_10 (by decide) (fun hc => ?_) (fun hc => ?_)
  · have hw := hw.1 hc
    refine zr_aload_n (r := some h0) hx hb dX5_put_16 rfl (lv_at hl 1 rfl) ?_
    obtain ⟨a_4, ci_5, fs_6, r_7, er, he, hc, hv, hw⟩ := zgR_e hw
    refine zw_get hk hH er he hv (fk_X5_171 hc) dX5_put_17 ?_
    refine lv_iload_n hx hb dX5_put_20 rfl (lv_at hl 2 rfl) ?_
    obtain ⟨a_8, n_9, f_10, er, he, hi, hw⟩ := zaR_e hw
    have hw := hw _ rfl
    refine zw_aald hk hH 15 er he rfl rfl hi dX5_put_21 ?_
    generalize f_10 x1.toNatClampNeg = r_11 at hw ⊢
    refine lv_iload_n hx hb dX5_put_22 rfl (lv_at hl 3 rfl) ?_
    refine zr_aload_n (r := some h0) hx hb dX5_put_23 rfl (lv_at hl 1 rfl) ?_
    obtain ⟨a_12, ci_13, fs_14, r_15, er, he, hc, hv, hw⟩ := zgR_e hw
    refine zw_get hk hH er he hv (fk_X5_165 hc) dX5_put_24 ?_
    refine lv_iload_n hx hb dX5_put_27 rfl (lv_at hl 2 rfl) ?_
    obtain ⟨a_16, n_17, f_18, er, he, hi, hw⟩ := zaI_e hw
    have hw := hw _ rfl
    refine zw_iald hk hH er he hi dX5_put_28 ?_
    generalize f_18 x1.toNatClampNeg = x_19 at hw ⊢
    obtain ⟨P_80, hP_80, hw⟩ := hw
    have hJ_80 : ∀ (x_20 : Int32) (r_21 : Option Nat) (x_22 : Int32) (x_23 : UInt64) (hp_24 : zHp) (nx_25 : Nat) (H : Heap) (locs : List Loc) (ls : Array Slot), P_80 x_20 r_21 x_22 x_23 hp_24 nx_25 → lv_has ls 5 [(0, va_rf (some h0)), (1, .int x1), (2, .int x2), (3, .int x3), (4, .int x_20)] → zHd g hp_24 H → H.size = nx_25 → va_S (zAd g) s.heap H locs → W p l e (zrm (d + 1) 0 0) s m ([.ref h0, .int x1, .int x2, .int x3] : List Value).toArray below meth c H locs 0 0 (MQ below (zQi g Post) ([.ref h0, .int x1, .int x2, .int x3] : List Value).toArray s 0 0 (zAd g)) (F0 m 80 ls [.double x_23, .int x_22, va_rf r_21]) := by
      intro x_20 r_21 x_22 x_23 hp_24 nx_25 H locs ls hw hl hH hz hS
      have hw := hP_80 x_20 r_21 x_22 x_23 hp_24 nx_25 hw
      obtain ⟨a_26, n_27, f_28, er, he, hi, hA, hw⟩ := zaD_e hw
      obtain ⟨hp_29, eh⟩ : ∃ y : zHp, y = va_up hp_24 a_26 (some (.inl (g.2.1 1, n_27, .inr (.inr (.inr (.inl (va_up f_28 x_22.toNatClampNeg x_23))))))) := ⟨_, rfl⟩
      have hw := hw hp_29 eh
      refine zw_dast hk hH hz hS er he hi hA eh dX5_put_80 (fun H locs hH hz hS => ?_)
      refine zr_aload_n (r := some h0) hx hb dX5_put_81 rfl (lv_at hl 0 rfl) ?_
      obtain ⟨a_30, ci_31, fs_32, r_33, er, he, hc, hv, hw⟩ := zgR_e hw
      refine zw_get hk hH er he hv (fk_X5_174 hc) dX5_put_82 ?_
      refine lv_iload_n hx hb dX5_put_85 rfl (lv_at hl 1 rfl) ?_
      obtain ⟨a_34, n_35, f_36, er, he, hi, hw⟩ := zaR_e hw
      have hw := hw _ rfl
      refine zw_aald hk hH 16 er he rfl rfl hi dX5_put_86 ?_
      generalize f_36 x1.toNatClampNeg = r_37 at hw ⊢
      refine lv_iload_n hx hb dX5_put_87 rfl (lv_at hl 2 rfl) ?_
      refine lv_iconst (v := (0 : Int32)) hx hb dX5_put_88 (by decide) ?_
      obtain ⟨a_38, n_39, f_40, er, he, hi, hA, hw⟩ := zaI_e hw
      obtain ⟨hp_41, eh⟩ : ∃ y : zHp, y = va_up hp_29 a_38 (some (.inl (g.2.1 3, n_39, .inl (va_up f_40 x2.toNatClampNeg (vp_nar .boolean (0 : Int32)))))) := ⟨_, rfl⟩
      have hw := hw hp_41 eh
      refine zw_zast hk hH hz hS er he hi hA eh dX5_put_89 (fun H locs hH hz hS => ?_)
      refine lv_iconst (v := (1 : Int32)) hx hb dX5_put_90 (by decide) ?_
      exact zr_iret hk hr hH hz hS hw (Nat.le_of_ble_eq_true rfl) (Nat.le_of_ble_eq_true rfl) dX5_put_91
    refine lv_if_ne (tgt := 38) hx hb dX5_put_29 (by decide) (fun hc => ?_) (fun hc => ?_)
    · have hw := hw.2 hc
      refine zr_aload_n (r := some h0) hx hb dX5_put_38 rfl (lv_at hl 1 rfl) ?_
      obtain ⟨a_42, ci_43, fs_44, r_45, er, he, hc, hv, hw⟩ := zgR_e hw
      refine zw_get hk hH er he hv (fk_X5_165 hc) dX5_put_39 ?_
      refine lv_iload_n hx hb dX5_put_42 rfl (lv_at hl 2 rfl) ?_
      obtain ⟨a_46, n_47, f_48, er, he, hi, hw⟩ := zaI_e hw
      have hw := hw _ rfl
      refine zw_iald hk hH er he hi dX5_put_43 ?_
      generalize f_48 x1.toNatClampNeg = x_49 at hw ⊢
      refine lv_iconst (v := (1 : Int32)) hx hb dX5_put_44 (by decide) ?_
      refine lv_icmp_ne (tgt := 53) hx hb dX5_put_45 (by decide) (fun hc => ?_) (fun hc => ?_)
      · have hw := hw.2 hc
        refine zr_aload_n (r := some h0) hx hb dX5_put_53 rfl (lv_at hl 1 rfl) ?_
        obtain ⟨a_50, ci_51, fs_52, r_53, er, he, hc, hv, hw⟩ := zgR_e hw
        refine zw_get hk hH er he hv (fk_X5_165 hc) dX5_put_54 ?_
        refine lv_iload_n hx hb dX5_put_57 rfl (lv_at hl 2 rfl) ?_
        obtain ⟨a_54, n_55, f_56, er, he, hi, hw⟩ := zaI_e hw
        have hw := hw _ rfl
        refine zw_iald hk hH er he hi dX5_put_58 ?_
        generalize f_56 x1.toNatClampNeg = x_57 at hw ⊢
        refine lv_iconst (v := (2 : Int32)) hx hb dX5_put_59 (by decide) ?_
        refine lv_icmp_ne (tgt := 74) hx hb dX5_put_60 (by decide) (fun hc => ?_) (fun hc => ?_)
        · have hw := hw.2 hc
          refine lv_iload_n hx hb dX5_put_74 rfl (lv_at hl 4 rfl) ?_
          refine lv_i2d hx hb dX5_put_75 ?_
          refine lv_ldc2d hx hb hown (hts _ q2923) dX5_put_76 ?_
          obtain ⟨hne, hw⟩ := hw
          refine lv_ddiv hx hb dX5_put_79 hne ?_
          exact hJ_80 x_3 r_11 x2 (FP.ddiv (FP.i2d x3) (4620693217682128896 : UInt64)) hp_1 nx_2 _ _ _ hw (lv_sub hl [1, 2, 3, 4, 0] rfl) hH hz hS
        · have hw := hw.1 hc
          refine lv_iload_n hx hb dX5_put_63 rfl (lv_at hl 4 rfl) ?_
          refine lv_i2d hx hb dX5_put_64 ?_
          refine lv_ldc2d hx hb hown (hts _ q2923) dX5_put_65 ?_
          obtain ⟨hne, hw⟩ := hw
          refine lv_ddiv hx hb dX5_put_68 hne ?_
          obtain ⟨hne, hw⟩ := hw
          refine lv_d2f hx hb dX5_put_69 hne ?_
          obtain ⟨hne, hw⟩ := hw
          refine lv_f2d hx hb dX5_put_70 hne ?_
          refine lv_goto (tgt := 80) hx hb dX5_put_71 (by decide) ?_
          exact hJ_80 x_3 r_11 x2 (FP.f2d (FP.d2f (FP.ddiv (FP.i2d x3) (4620693217682128896 : UInt64)))) hp_1 nx_2 _ _ _ hw (lv_sub hl [1, 2, 3, 4, 0] rfl) hH hz hS
      · have hw := hw.1 hc
        refine lv_iload_n hx hb dX5_put_48 rfl (lv_at hl 4 rfl) ?_
        refine lv_i2d hx hb dX5_put_49 ?_
        refine lv_goto (tgt := 80) hx hb dX5_put_50 (by decide) ?_
        exact hJ_80 x_3 r_11 x2 (FP.i2d x3) hp_1 nx_2 _ _ _ hw (lv_sub hl [1, 2, 3, 4, 0] rfl) hH hz hS
    · have hw := hw.1 hc
      refine lv_iload_n hx hb dX5_put_32 rfl (lv_at hl 4 rfl) ?_
      refine lv_i2b hx hb dX5_put_33 rfl ?_
      refine lv_i2d hx hb dX5_put_34 ?_
      refine lv_goto (tgt := 80) hx hb dX5_put_35 (by decide) ?_
      exact hJ_80 x_3 r_11 x2 (FP.i2d x3.toInt8.toInt32) hp_1 nx_2 _ _ _ hw (lv_sub hl [1, 2, 3, 4, 0] rfl) hH hz hS
  · have hw := hw.2 hc
    refine lv_iload hx hb dX5_put_13 (lv_at hl 0 rfl) ?_
    exact zr_iret hk hr hH hz hS hw (Nat.le_of_ble_eq_true rfl) (Nat.le_of_ble_eq_true rfl) dX5_put_15
def wp_X5_itemRefusal (l : Launch) (g : zG) (d : Nat) (h0 : Nat) (x1 : Int32) (x2 : Int32) (hp : zHp) (nx : Nat) (Post : Int32 → zHp → Nat → Prop) : Prop :=
  (zMt l g yX5_isRow cX5_isRow 1 (some .boolean) d 0 0 [.int x1] hp nx (zQi g fun x_3 hp_1 nx_2 =>
  ((x_3 = 0 →
  (Post (-2 : Int32) hp_1 nx_2)) ∧
  (¬ x_3 = 0 →
  (zgR hp_1 (some h0) [5] 70 fun r_7 =>
  (zaI (g.2.1 0) hp_1 r_7 fun a_8 n_9 f_10 => vp_in x1 n_9 ∧ ∀ x_11 : Int32, x_11 = f_10 x1.toNatClampNeg →
  ((0 ≤ x_11 →
  (zgR hp_1 (some h0) [5] 71 fun r_15 =>
  (zaI (g.2.1 0) hp_1 r_15 fun a_16 n_17 f_18 => vp_in x1 n_17 ∧ ∀ x_19 : Int32, x_19 = f_18 x1.toNatClampNeg →
  (zMt l g yX5_in cX5_in 3 (some .boolean) d 0 0 [.int x2, .int (0 : Int32), .int (x_19 - (1 : Int32))] hp_1 nx_2 (zQi g fun x_22 hp_20 nx_21 =>
  (∃ P_44 : Int32 → zHp → Nat → Prop, (∀ (x_23 : Int32) (hp_24 : zHp) (nx_25 : Nat), P_44 x_23 hp_24 nx_25 →
  (Post x_23 hp_24 nx_25)) ∧
  ((x_22 = 0 →
  P_44 (-12 : Int32) hp_20 nx_21) ∧
  (¬ x_22 = 0 →
  P_44 (0 : Int32) hp_20 nx_21)))))))) ∧
  (¬ 0 ≤ x_11 →
  (Post (-11 : Int32) hp_1 nx_2)))))))))
set_option maxHeartbeats 40000000 in
theorem met_X5_itemRefusal {l : Launch} {g : zG} {d : Nat} {h0 : Nat} {x1 : Int32} {x2 : Int32} {hp : zHp} {nx : Nat} {Post : Int32 → zHp → Nat → Prop} (hw : wp_X5_itemRefusal l g d h0 x1 x2 hp nx Post) : zMt l g yX5_itemRefusal cX5_itemRefusal 3 (some .int) (d + 1) 0 0 [.ref h0, .int x1, .int x2] hp nx (zQi g Post) := by
  refine z_start (by decide) (Nat.le_of_ble_eq_true rfl) ?_
  intro p e s m below meth c hk hr hin hH hz ls hl
  have hx := hk.1.1
  have hb := hk.1.2.1
  have hown := hk.1.2.2.2.1
  have hts := hk.1.2.2.2.2
  have hS : va_S (zAd g) s.heap s.heap [] := va_S.rf
  have hl : lv_has ls 3 [(0, va_rf (some h0)), (1, .int x1), (2, .int x2)] := hl
  unfold wp_X5_itemRefusal at hw
  refine lv_iload_n hx hb dX5_itemRefusal_0 rfl (lv_at hl 1 rfl) ?_
  refine zr_calli (zr_runS (As := [.int x1]) hk hH hz hS hl.1 hw (va_cwS 1 hts (lw_S q3198 q3199 q162 q3200) rfl rfl rfl (by decide +kernel) (z_room (Nat.le_of_ble_eq_true rfl))) rfl rfl (Nat.le_of_ble_eq_true rfl) dX5_itemRefusal_1 ⟨Nat.le_of_ble_eq_true rfl, Nat.le_of_ble_eq_true rfl⟩) hS (fun x_3 hp_1 nx_2 hw H locs hH hz hS => ?_)
  refine lv_if_ne (tgt := 10) hx hb dX5_itemRefusal_4 (by decide) (fun hc => ?_) (fun hc => ?_)
  · have hw := hw.2 hc
    refine zr_aload_n (r := some h0) hx hb dX5_itemRefusal_10 rfl (lv_at hl 0 rfl) ?_
    obtain ⟨a_4, ci_5, fs_6, r_7, er, he, hc, hv, hw⟩ := zgR_e hw
    refine zw_get hk hH er he hv (fk_X5_165 hc) dX5_itemRefusal_11 ?_
    refine lv_iload_n hx hb dX5_itemRefusal_14 rfl (lv_at hl 1 rfl) ?_
    obtain ⟨a_8, n_9, f_10, er, he, hi, hw⟩ := zaI_e hw
    have hw := hw _ rfl
    refine zw_iald hk hH er he hi dX5_itemRefusal_15 ?_
    generalize f_10 x1.toNatClampNeg = x_11 at hw ⊢
    refine lv_if_ge (tgt := 22) hx hb dX5_itemRefusal_16 (by decide) (fun hc => ?_) (fun hc => ?_)
    · have hw := hw.1 hc
      refine lv_iload_n hx hb dX5_itemRefusal_22 rfl (lv_at hl 2 rfl) ?_
      refine lv_iconst (v := (0 : Int32)) hx hb dX5_itemRefusal_23 (by decide) ?_
      refine zr_aload_n (r := some h0) hx hb dX5_itemRefusal_24 rfl (lv_at hl 0 rfl) ?_
      obtain ⟨a_12, ci_13, fs_14, r_15, er, he, hc, hv, hw⟩ := zgR_e hw
      refine zw_get hk hH er he hv (fk_X5_168 hc) dX5_itemRefusal_25 ?_
      refine lv_iload_n hx hb dX5_itemRefusal_28 rfl (lv_at hl 1 rfl) ?_
      obtain ⟨a_16, n_17, f_18, er, he, hi, hw⟩ := zaI_e hw
      have hw := hw _ rfl
      refine zw_iald hk hH er he hi dX5_itemRefusal_29 ?_
      generalize f_18 x1.toNatClampNeg = x_19 at hw ⊢
      refine lv_iconst (v := (1 : Int32)) hx hb dX5_itemRefusal_30 (by decide) ?_
      refine lv_isub hx hb dX5_itemRefusal_31 ?_
      refine zr_calli (zr_runS (As := [.int x2, .int (0 : Int32), .int (x_19 - (1 : Int32))]) hk hH hz hS hl.1 hw (va_cwS 3 hts (lw_S q2911 q2912 q162 q2913) rfl rfl rfl (by decide +kernel) (z_room (Nat.le_of_ble_eq_true rfl))) rfl rfl (Nat.le_of_ble_eq_true rfl) dX5_itemRefusal_32 ⟨Nat.le_of_ble_eq_true rfl, Nat.le_of_ble_eq_true rfl⟩) hS (fun x_22 hp_20 nx_21 hw H locs hH hz hS => ?_)
      obtain ⟨P_44, hP_44, hw⟩ := hw
      have hJ_44 : ∀ (x_23 : Int32) (hp_24 : zHp) (nx_25 : Nat) (H : Heap) (locs : List Loc) (ls : Array Slot), P_44 x_23 hp_24 nx_25 → lv_has ls 3 [(0, va_rf (some h0)), (1, .int x1), (2, .int x2)] → zHd g hp_24 H → H.size = nx_25 → va_S (zAd g) s.heap H locs → W p l e (zrm (d + 1) 0 0) s m ([.ref h0, .int x1, .int x2] : List Value).toArray below meth c H locs 0 0 (MQ below (zQi g Post) ([.ref h0, .int x1, .int x2] : List Value).toArray s 0 0 (zAd g)) (F0 m 44 ls [.int x_23]) := by
        intro x_23 hp_24 nx_25 H locs ls hw hl hH hz hS
        have hw := hP_44 x_23 hp_24 nx_25 hw
        exact zr_iret hk hr hH hz hS hw (Nat.le_of_ble_eq_true rfl) (Nat.le_of_ble_eq_true rfl) dX5_itemRefusal_44
      refine lv_if_eq (tgt := 42) hx hb dX5_itemRefusal_35 (by decide) (fun hc => ?_) (fun hc => ?_)
      · have hw := hw.1 hc
        refine lv_bipush (v := (-12 : Int32)) hx hb dX5_itemRefusal_42 (by decide) ?_
        exact hJ_44 (-12 : Int32) hp_20 nx_21 _ _ _ hw hl hH hz hS
      · have hw := hw.2 hc
        refine lv_iconst (v := (0 : Int32)) hx hb dX5_itemRefusal_38 (by decide) ?_
        refine lv_goto (tgt := 44) hx hb dX5_itemRefusal_39 (by decide) ?_
        exact hJ_44 (0 : Int32) hp_20 nx_21 _ _ _ hw hl hH hz hS
    · have hw := hw.2 hc
      refine lv_bipush (v := (-11 : Int32)) hx hb dX5_itemRefusal_19 (by decide) ?_
      exact zr_iret hk hr hH hz hS hw (Nat.le_of_ble_eq_true rfl) (Nat.le_of_ble_eq_true rfl) dX5_itemRefusal_21
  · have hw := hw.1 hc
    refine lv_bipush (v := (-2 : Int32)) hx hb dX5_itemRefusal_7 (by decide) ?_
    exact zr_iret hk hr hH hz hS hw (Nat.le_of_ble_eq_true rfl) (Nat.le_of_ble_eq_true rfl) dX5_itemRefusal_9
def wp_X5_item (l : Launch) (g : zG) (d : Nat) (h0 : Nat) (x1 : Int32) (x2 : Int32) (hp : zHp) (nx : Nat) (Post : Int64 → zHp → Nat → Prop) : Prop :=
  (zo hp (some h0) [5] fun a_35 ci_36 fs_37 => zMt l g yX5_itemRefusal cX5_itemRefusal 3 (some .int) d 0 0 (.ref a_35 :: [.int x1, .int x2]) hp nx (zQi g fun x_3 hp_1 nx_2 =>
  ((x_3 = 0 →
  (zgR hp_1 (some h0) [5] 73 fun r_7 =>
  (zaR (g.2.1 16) hp_1 r_7 fun a_8 n_9 f_10 => vp_in x1 n_9 ∧ ∀ r_11 : Option Nat, r_11 = f_10 x1.toNatClampNeg →
  (zaI (g.2.1 3) hp_1 r_11 fun a_12 n_13 f_14 => vp_in x2 n_13 ∧ ∀ x_15 : Int32, x_15 = f_14 x2.toNatClampNeg →
  (∃ P_42 : Int32 → Int64 → zHp → Nat → Prop, (∀ (x_16 : Int32) (x_17 : Int64) (hp_18 : zHp) (nx_19 : Nat), P_42 x_16 x_17 hp_18 nx_19 →
  (Post x_17 hp_18 nx_19)) ∧
  ((x_15 = 0 →
  (zgR hp_1 (some h0) [5] 72 fun r_23 =>
  (zaR (g.2.1 15) hp_1 r_23 fun a_24 n_25 f_26 => vp_in x1 n_25 ∧ ∀ r_27 : Option Nat, r_27 = f_26 x1.toNatClampNeg →
  (zaD (g.2.1 1) hp_1 r_27 fun a_28 n_29 f_30 => vp_in x2 n_29 ∧ ∀ x_31 : UInt64, x_31 = f_30 x2.toNatClampNeg →
  (zMt l g yX5_bits cX5_bits 2 (some .long) d 0 0 [.double x_31] hp_1 nx_2 (zQl g fun x_34 hp_32 nx_33 =>
  P_42 x_3 x_34 hp_32 nx_33)))))) ∧
  (¬ x_15 = 0 →
  P_42 x_3 (-1 : Int64) hp_1 nx_2))))))) ∧
  (¬ x_3 = 0 →
  (Post x_3.toInt64 hp_1 nx_2)))))
set_option maxHeartbeats 40000000 in
theorem met_X5_item {l : Launch} {g : zG} {d : Nat} {h0 : Nat} {x1 : Int32} {x2 : Int32} {hp : zHp} {nx : Nat} {Post : Int64 → zHp → Nat → Prop} (hw : wp_X5_item l g d h0 x1 x2 hp nx Post) : zMt l g yX5_item cX5_item 4 (some .long) (d + 1) 0 0 [.ref h0, .int x1, .int x2] hp nx (zQl g Post) := by
  refine z_start (by decide) (Nat.le_of_ble_eq_true rfl) ?_
  intro p e s m below meth c hk hr hin hH hz ls hl
  have hx := hk.1.1
  have hb := hk.1.2.1
  have hown := hk.1.2.2.2.1
  have hts := hk.1.2.2.2.2
  have hS : va_S (zAd g) s.heap s.heap [] := va_S.rf
  have hl : lv_has ls 4 [(0, va_rf (some h0)), (1, .int x1), (2, .int x2)] := hl
  unfold wp_X5_item at hw
  refine zr_aload_n (r := some h0) hx hb dX5_item_0 rfl (lv_at hl 0 rfl) ?_
  refine lv_iload_n hx hb dX5_item_1 rfl (lv_at hl 1 rfl) ?_
  refine lv_iload_n hx hb dX5_item_2 rfl (lv_at hl 2 rfl) ?_
  obtain ⟨a_35, ci_36, fs_37, er, he, hc, hw⟩ := zo_e hw
  obtain rfl := List.mem_singleton.mp hc
  refine zr_calli (zw_runV (As := [.int x1, .int x2]) hk hH hz hS hl.1 er hw (cwV 2 hts (lw_V q3334 q3336 qs129 q162 q3337) rfl rfl rfl (by decide +kernel) (z_room (Nat.le_of_ble_eq_true rfl))) he rfl rfl rfl (Nat.le_of_ble_eq_true rfl) dX5_item_3 ⟨Nat.le_of_ble_eq_true rfl, Nat.le_of_ble_eq_true rfl⟩) hS (fun x_3 hp_1 nx_2 hw H locs hH hz hS => ?_)
  refine lv_istore_n (i := 3) (lv' := [(3, .int x_3), (0, va_rf (some h0)), (1, .int x1), (2, .int x2)]) hx hb dX5_item_6 rfl hl (by decide) (by first | rfl | simp [List.filter_cons, z_cat, z_catI, z_catJ, z_catF, z_catD]) (fun ls hl => ?_)
  refine lv_iload_n hx hb dX5_item_7 rfl (lv_at hl 0 rfl) ?_
  refine lv_if_eq (tgt := 14) hx hb dX5_item_8 (by decide) (fun hc => ?_) (fun hc => ?_)
  · have hw := hw.1 hc
    refine zr_aload_n (r := some h0) hx hb dX5_item_14 rfl (lv_at hl 1 rfl) ?_
    obtain ⟨a_4, ci_5, fs_6, r_7, er, he, hc, hv, hw⟩ := zgR_e hw
    refine zw_get hk hH er he hv (fk_X5_174 hc) dX5_item_15 ?_
    refine lv_iload_n hx hb dX5_item_18 rfl (lv_at hl 2 rfl) ?_
    obtain ⟨a_8, n_9, f_10, er, he, hi, hw⟩ := zaR_e hw
    have hw := hw _ rfl
    refine zw_aald hk hH 16 er he rfl rfl hi dX5_item_19 ?_
    generalize f_10 x1.toNatClampNeg = r_11 at hw ⊢
    refine lv_iload_n hx hb dX5_item_20 rfl (lv_at hl 3 rfl) ?_
    obtain ⟨a_12, n_13, f_14, er, he, hi, hw⟩ := zaI_e hw
    have hw := hw _ rfl
    refine zw_zald hk hH er he hi dX5_item_21 ?_
    generalize f_14 x2.toNatClampNeg = x_15 at hw ⊢
    obtain ⟨P_42, hP_42, hw⟩ := hw
    have hJ_42 : ∀ (x_16 : Int32) (x_17 : Int64) (hp_18 : zHp) (nx_19 : Nat) (H : Heap) (locs : List Loc) (ls : Array Slot), P_42 x_16 x_17 hp_18 nx_19 → lv_has ls 4 [(0, va_rf (some h0)), (1, .int x1), (2, .int x2), (3, .int x_16)] → zHd g hp_18 H → H.size = nx_19 → va_S (zAd g) s.heap H locs → W p l e (zrm (d + 1) 0 0) s m ([.ref h0, .int x1, .int x2] : List Value).toArray below meth c H locs 0 0 (MQ below (zQl g Post) ([.ref h0, .int x1, .int x2] : List Value).toArray s 0 0 (zAd g)) (F0 m 42 ls [.long x_17]) := by
      intro x_16 x_17 hp_18 nx_19 H locs ls hw hl hH hz hS
      have hw := hP_42 x_16 x_17 hp_18 nx_19 hw
      exact zr_lret hk hr hH hz hS hw (Nat.le_of_ble_eq_true rfl) (Nat.le_of_ble_eq_true rfl) dX5_item_42
    refine lv_if_eq (tgt := 31) hx hb dX5_item_22 (by decide) (fun hc => ?_) (fun hc => ?_)
    · have hw := hw.1 hc
      refine zr_aload_n (r := some h0) hx hb dX5_item_31 rfl (lv_at hl 1 rfl) ?_
      obtain ⟨a_20, ci_21, fs_22, r_23, er, he, hc, hv, hw⟩ := zgR_e hw
      refine zw_get hk hH er he hv (fk_X5_171 hc) dX5_item_32 ?_
      refine lv_iload_n hx hb dX5_item_35 rfl (lv_at hl 2 rfl) ?_
      obtain ⟨a_24, n_25, f_26, er, he, hi, hw⟩ := zaR_e hw
      have hw := hw _ rfl
      refine zw_aald hk hH 15 er he rfl rfl hi dX5_item_36 ?_
      generalize f_26 x1.toNatClampNeg = r_27 at hw ⊢
      refine lv_iload_n hx hb dX5_item_37 rfl (lv_at hl 3 rfl) ?_
      obtain ⟨a_28, n_29, f_30, er, he, hi, hw⟩ := zaD_e hw
      have hw := hw _ rfl
      refine zw_dald hk hH er he hi dX5_item_38 ?_
      generalize f_30 x2.toNatClampNeg = x_31 at hw ⊢
      refine zr_calll (zr_runS (As := [.double x_31]) hk hH hz hS hl.1 hw (va_cwS 1 hts (lw_S q3049 q3050 q162 q3051) rfl rfl rfl (by decide +kernel) (z_room (Nat.le_of_ble_eq_true rfl))) rfl rfl (Nat.le_of_ble_eq_true rfl) dX5_item_39 ⟨Nat.le_of_ble_eq_true rfl, Nat.le_of_ble_eq_true rfl⟩) hS (fun x_34 hp_32 nx_33 hw H locs hH hz hS => ?_)
      exact hJ_42 x_3 x_34 hp_32 nx_33 _ _ _ hw (lv_sub hl [1, 2, 3, 0] rfl) hH hz hS
    · have hw := hw.2 hc
      refine lv_ldc2 hx hb hown (hts _ q3273) dX5_item_25 ?_
      refine lv_goto (tgt := 42) hx hb dX5_item_28 (by decide) ?_
      exact hJ_42 x_3 (-1 : Int64) hp_1 nx_2 _ _ _ hw (lv_sub hl [1, 2, 3, 0] rfl) hH hz hS
  · have hw := hw.2 hc
    refine lv_iload_n hx hb dX5_item_11 rfl (lv_at hl 0 rfl) ?_
    refine lv_i2l hx hb dX5_item_12 rfl ?_
    exact zr_lret hk hr hH hz hS hw (Nat.le_of_ble_eq_true rfl) (Nat.le_of_ble_eq_true rfl) dX5_item_13
theorem fk_X5_177 {ci : Nat} (h : ci ∈ [5]) : zFk "WhatIfSheetModel" 177 ci 74 := by
  simp only [List.mem_cons, List.not_mem_nil, or_false] at h
  rcases h with rfl
  · exact ⟨RX5, TX5, 76, rfl, by decide, q2748⟩
theorem fk_X5_180 {ci : Nat} (h : ci ∈ [5]) : zFk "WhatIfSheetModel" 180 ci 75 := by
  simp only [List.mem_cons, List.not_mem_nil, or_false] at h
  rcases h with rfl
  · exact ⟨RX5, TX5, 76, rfl, by decide, q2749⟩
def wp_X5_copy (l : Launch) (g : zG) (d : Nat) (h0 : Nat) (x1 : Int32) (x2 : Int32) (x3 : Int32) (x4 : Int32) (x5 : Int32) (hp : zHp) (nx : Nat) (Post : Int32 → zHp → Nat → Prop) : Prop :=
  (zMt l g yX5_isRow cX5_isRow 1 (some .boolean) d 0 0 [.int x1] hp nx (zQi g fun x_3 hp_1 nx_2 =>
  (∃ P_14 : zHp → Nat → Prop, (∀ (hp_4 : zHp) (nx_5 : Nat), P_14 hp_4 nx_5 →
  (Post (-2 : Int32) hp_4 nx_5)) ∧
  ((x_3 = 0 →
  P_14 hp_1 nx_2) ∧
  (¬ x_3 = 0 →
  (zMt l g yX5_isRow cX5_isRow 1 (some .boolean) d 0 0 [.int x3] hp_1 nx_2 (zQi g fun x_8 hp_6 nx_7 =>
  ((x_8 = 0 →
  P_14 hp_6 nx_7) ∧
  (¬ x_8 = 0 →
  (zgR hp_6 (some h0) [5] 70 fun r_12 =>
  (zaI (g.2.1 0) hp_6 r_12 fun a_13 n_14 f_15 => vp_in x1 n_14 ∧ ∀ x_16 : Int32, x_16 = f_15 x1.toNatClampNeg →
  (∃ P_35 : zHp → Nat → Prop, (∀ (hp_17 : zHp) (nx_18 : Nat), P_35 hp_17 nx_18 →
  (Post (-11 : Int32) hp_17 nx_18)) ∧
  ((x_16 < 0 →
  P_35 hp_6 nx_7) ∧
  (¬ x_16 < 0 →
  (zgR hp_6 (some h0) [5] 70 fun r_22 =>
  (zaI (g.2.1 0) hp_6 r_22 fun a_23 n_24 f_25 => vp_in x3 n_24 ∧ ∀ x_26 : Int32, x_26 = f_25 x3.toNatClampNeg →
  ((0 ≤ x_26 →
  (zgR hp_6 (some h0) [5] 70 fun r_30 =>
  (zaI (g.2.1 0) hp_6 r_30 fun a_31 n_32 f_33 => vp_in x1 n_32 ∧ ∀ x_34 : Int32, x_34 = f_33 x1.toNatClampNeg →
  (zgR hp_6 (some h0) [5] 70 fun r_38 =>
  (zaI (g.2.1 0) hp_6 r_38 fun a_39 n_40 f_41 => vp_in x3 n_40 ∧ ∀ x_42 : Int32, x_42 = f_41 x3.toNatClampNeg →
  ((x_34 = x_42 →
  (∃ P_97 : zHp → Nat → Prop, (∀ (hp_43 : zHp) (nx_44 : Nat), P_97 hp_43 nx_44 →
  (Post (-12 : Int32) hp_43 nx_44)) ∧
  ((x5 < 0 →
  P_97 hp_6 nx_7) ∧
  (¬ x5 < 0 →
  ((x2 < 0 →
  P_97 hp_6 nx_7) ∧
  (¬ x2 < 0 →
  ((x4 < 0 →
  P_97 hp_6 nx_7) ∧
  (¬ x4 < 0 →
  (zgR hp_6 (some h0) [5] 71 fun r_48 =>
  (zaI (g.2.1 0) hp_6 r_48 fun a_49 n_50 f_51 => vp_in x1 n_50 ∧ ∀ x_52 : Int32, x_52 = f_51 x1.toNatClampNeg →
  (((x_52 - x5) < x2 →
  P_97 hp_6 nx_7) ∧
  (¬ (x_52 - x5) < x2 →
  (zgR hp_6 (some h0) [5] 71 fun r_56 =>
  (zaI (g.2.1 0) hp_6 r_56 fun a_57 n_58 f_59 => vp_in x3 n_58 ∧ ∀ x_60 : Int32, x_60 = f_59 x3.toNatClampNeg →
  ((x4 ≤ (x_60 - x5) →
  (zgR hp_6 (some h0) [5] 72 fun r_64 =>
  (zaR (g.2.1 15) hp_6 r_64 fun a_65 n_66 f_67 => vp_in x1 n_66 ∧ ∀ r_68 : Option Nat, r_68 = f_67 x1.toNatClampNeg →
  (zgR hp_6 (some h0) [5] 74 fun r_72 =>
  (zaD (g.2.1 1) hp_6 r_68 fun a_73 n_75 f_77 => zaD (g.2.1 1) hp_6 r_72 fun a_74 n_76 f_78 => zB g ≤ a_74 ∧ ¬ x2 < 0 ∧ ¬ (0 : Int32) < 0 ∧ ¬ x5 < 0 ∧ x2.toNatClampNeg + x5.toNatClampNeg ≤ n_75 ∧ (0 : Int32).toNatClampNeg + x5.toNatClampNeg ≤ n_76 ∧ (∀ i, i < x5.toNatClampNeg → fits .double (.double (f_77 (x2.toNatClampNeg + i))) = true) ∧ ∀ hp_79 : zHp, hp_79 = va_up hp_6 a_74 (some (.inl (g.2.1 1, n_76, .inr (.inr (.inr (.inl (va_cpy f_77 f_78 x2.toNatClampNeg (0 : Int32).toNatClampNeg x5.toNatClampNeg))))))) →
  (zgR hp_79 (some h0) [5] 73 fun r_83 =>
  (zaR (g.2.1 16) hp_79 r_83 fun a_84 n_85 f_86 => vp_in x1 n_85 ∧ ∀ r_87 : Option Nat, r_87 = f_86 x1.toNatClampNeg →
  (zgR hp_79 (some h0) [5] 75 fun r_91 =>
  (zaI (g.2.1 3) hp_79 r_87 fun a_92 n_94 f_96 => zaI (g.2.1 3) hp_79 r_91 fun a_93 n_95 f_97 => zB g ≤ a_93 ∧ ¬ x2 < 0 ∧ ¬ (0 : Int32) < 0 ∧ ¬ x5 < 0 ∧ x2.toNatClampNeg + x5.toNatClampNeg ≤ n_94 ∧ (0 : Int32).toNatClampNeg + x5.toNatClampNeg ≤ n_95 ∧ (∀ i, i < x5.toNatClampNeg → fits .boolean (.int (f_96 (x2.toNatClampNeg + i))) = true) ∧ ∀ hp_98 : zHp, hp_98 = va_up hp_79 a_93 (some (.inl (g.2.1 3, n_95, .inl (va_cpy f_96 f_97 x2.toNatClampNeg (0 : Int32).toNatClampNeg x5.toNatClampNeg)))) →
  (zgR hp_98 (some h0) [5] 74 fun r_102 =>
  (zgR hp_98 (some h0) [5] 72 fun r_106 =>
  (zaR (g.2.1 15) hp_98 r_106 fun a_107 n_108 f_109 => vp_in x3 n_108 ∧ ∀ r_110 : Option Nat, r_110 = f_109 x3.toNatClampNeg →
  (zaD (g.2.1 1) hp_98 r_102 fun a_111 n_113 f_115 => zaD (g.2.1 1) hp_98 r_110 fun a_112 n_114 f_116 => zB g ≤ a_112 ∧ ¬ (0 : Int32) < 0 ∧ ¬ x4 < 0 ∧ ¬ x5 < 0 ∧ (0 : Int32).toNatClampNeg + x5.toNatClampNeg ≤ n_113 ∧ x4.toNatClampNeg + x5.toNatClampNeg ≤ n_114 ∧ (∀ i, i < x5.toNatClampNeg → fits .double (.double (f_115 ((0 : Int32).toNatClampNeg + i))) = true) ∧ ∀ hp_117 : zHp, hp_117 = va_up hp_98 a_112 (some (.inl (g.2.1 1, n_114, .inr (.inr (.inr (.inl (va_cpy f_115 f_116 (0 : Int32).toNatClampNeg x4.toNatClampNeg x5.toNatClampNeg))))))) →
  (zgR hp_117 (some h0) [5] 75 fun r_121 =>
  (zgR hp_117 (some h0) [5] 73 fun r_125 =>
  (zaR (g.2.1 16) hp_117 r_125 fun a_126 n_127 f_128 => vp_in x3 n_127 ∧ ∀ r_129 : Option Nat, r_129 = f_128 x3.toNatClampNeg →
  (zaI (g.2.1 3) hp_117 r_121 fun a_130 n_132 f_134 => zaI (g.2.1 3) hp_117 r_129 fun a_131 n_133 f_135 => zB g ≤ a_131 ∧ ¬ (0 : Int32) < 0 ∧ ¬ x4 < 0 ∧ ¬ x5 < 0 ∧ (0 : Int32).toNatClampNeg + x5.toNatClampNeg ≤ n_132 ∧ x4.toNatClampNeg + x5.toNatClampNeg ≤ n_133 ∧ (∀ i, i < x5.toNatClampNeg → fits .boolean (.int (f_134 ((0 : Int32).toNatClampNeg + i))) = true) ∧ ∀ hp_136 : zHp, hp_136 = va_up hp_117 a_131 (some (.inl (g.2.1 3, n_133, .inl (va_cpy f_134 f_135 (0 : Int32).toNatClampNeg x4.toNatClampNeg x5.toNatClampNeg)))) →
  (Post x5 hp_136 nx_7)))))))))))))))))) ∧
  (¬ x4 ≤ (x_60 - x5) →
  P_97 hp_6 nx_7)))))))))))))))) ∧
  (¬ x_34 = x_42 →
  (Post (-13 : Int32) hp_6 nx_7)))))))) ∧
  (¬ 0 ≤ x_26 →
  P_35 hp_6 nx_7))))))))))))))))))
set_option maxHeartbeats 40000000 in
theorem met_X5_copy {l : Launch} {g : zG} {d : Nat} {h0 : Nat} {x1 : Int32} {x2 : Int32} {x3 : Int32} {x4 : Int32} {x5 : Int32} {hp : zHp} {nx : Nat} {Post : Int32 → zHp → Nat → Prop} (hw : wp_X5_copy l g d h0 x1 x2 x3 x4 x5 hp nx Post) : zMt l g yX5_copy cX5_copy 6 (some .int) (d + 1) 0 0 [.ref h0, .int x1, .int x2, .int x3, .int x4, .int x5] hp nx (zQi g Post) := by
  refine z_start (by decide) (Nat.le_of_ble_eq_true rfl) ?_
  intro p e s m below meth c hk hr hin hH hz ls hl
  have hx := hk.1.1
  have hb := hk.1.2.1
  have hown := hk.1.2.2.2.1
  have hts := hk.1.2.2.2.2
  have hS : va_S (zAd g) s.heap s.heap [] := va_S.rf
  have hl : lv_has ls 6 [(0, va_rf (some h0)), (1, .int x1), (2, .int x2), (3, .int x3), (4, .int x4), (5, .int x5)] := hl
  unfold wp_X5_copy at hw
  refine lv_iload_n hx hb dX5_copy_0 rfl (lv_at hl 1 rfl) ?_
  refine zr_calli (zr_runS (As := [.int x1]) hk hH hz hS hl.1 hw (va_cwS 1 hts (lw_S q3198 q3199 q162 q3200) rfl rfl rfl (by decide +kernel) (z_room (Nat.le_of_ble_eq_true rfl))) rfl rfl (Nat.le_of_ble_eq_true rfl) dX5_copy_1 ⟨Nat.le_of_ble_eq_true rfl, Nat.le_of_ble_eq_true rfl⟩) hS (fun x_3 hp_1 nx_2 hw H locs hH hz hS => ?_)
  obtain ⟨P_14, hP_14, hw⟩ := hw
  have hJ_14 : ∀ (hp_4 : zHp) (nx_5 : Nat) (H : Heap) (locs : List Loc) (ls : Array Slot), P_14 hp_4 nx_5 → lv_has ls 6 [(0, va_rf (some h0)), (1, .int x1), (2, .int x2), (3, .int x3), (4, .int x4), (5, .int x5)] → zHd g hp_4 H → H.size = nx_5 → va_S (zAd g) s.heap H locs → W p l e (zrm (d + 1) 0 0) s m ([.ref h0, .int x1, .int x2, .int x3, .int x4, .int x5] : List Value).toArray below meth c H locs 0 0 (MQ below (zQi g Post) ([.ref h0, .int x1, .int x2, .int x3, .int x4, .int x5] : List Value).toArray s 0 0 (zAd g)) (F0 m 14 ls []) := by
    intro hp_4 nx_5 H locs ls hw hl hH hz hS
    have hw := hP_14 hp_4 nx_5 hw
    refine lv_bipush (v := (-2 : Int32)) hx hb dX5_copy_14 (by decide) ?_
    exact zr_iret hk hr hH hz hS hw (Nat.le_of_ble_eq_true rfl) (Nat.le_of_ble_eq_true rfl) dX5_copy_16
  refine lv_if_eq (tgt := 14) hx hb dX5_copy_4 (by decide) (fun hc => ?_) (fun hc => ?_)
  · have hw := hw.1 hc
    exact hJ_14 hp_1 nx_2 _ _ _ hw hl hH hz hS
  · have hw := hw.2 hc
    refine lv_iload_n hx hb dX5_copy_7 rfl (lv_at hl 3 rfl) ?_
    refine zr_calli (zr_runS (As := [.int x3]) hk hH hz hS hl.1 hw (va_cwS 1 hts (lw_S q3198 q3199 q162 q3200) rfl rfl rfl (by decide +kernel) (z_room (Nat.le_of_ble_eq_true rfl))) rfl rfl (Nat.le_of_ble_eq_true rfl) dX5_copy_8 ⟨Nat.le_of_ble_eq_true rfl, Nat.le_of_ble_eq_true rfl⟩) hS (fun x_8 hp_6 nx_7 hw H locs hH hz hS => ?_)
    refine lv_if_ne (tgt := 17) hx hb dX5_copy_11 (by decide) (fun hc => ?_) (fun hc => ?_)
    · have hw := hw.2 hc
      refine zr_aload_n (r := some h0) hx hb dX5_copy_17 rfl (lv_at hl 0 rfl) ?_
      obtain ⟨a_9, ci_10, fs_11, r_12, er, he, hc, hv, hw⟩ := zgR_e hw
      refine zw_get hk hH er he hv (fk_X5_165 hc) dX5_copy_18 ?_
      refine lv_iload_n hx hb dX5_copy_21 rfl (lv_at hl 1 rfl) ?_
      obtain ⟨a_13, n_14, f_15, er, he, hi, hw⟩ := zaI_e hw
      have hw := hw _ rfl
      refine zw_iald hk hH er he hi dX5_copy_22 ?_
      generalize f_15 x1.toNatClampNeg = x_16 at hw ⊢
      obtain ⟨P_35, hP_35, hw⟩ := hw
      have hJ_35 : ∀ (hp_17 : zHp) (nx_18 : Nat) (H : Heap) (locs : List Loc) (ls : Array Slot), P_35 hp_17 nx_18 → lv_has ls 6 [(0, va_rf (some h0)), (1, .int x1), (2, .int x2), (3, .int x3), (4, .int x4), (5, .int x5)] → zHd g hp_17 H → H.size = nx_18 → va_S (zAd g) s.heap H locs → W p l e (zrm (d + 1) 0 0) s m ([.ref h0, .int x1, .int x2, .int x3, .int x4, .int x5] : List Value).toArray below meth c H locs 0 0 (MQ below (zQi g Post) ([.ref h0, .int x1, .int x2, .int x3, .int x4, .int x5] : List Value).toArray s 0 0 (zAd g)) (F0 m 35 ls []) := by
        intro hp_17 nx_18 H locs ls hw hl hH hz hS
        have hw := hP_35 hp_17 nx_18 hw
        refine lv_bipush (v := (-11 : Int32)) hx hb dX5_copy_35 (by decide) ?_
        exact zr_iret hk hr hH hz hS hw (Nat.le_of_ble_eq_true rfl) (Nat.le_of_ble_eq_true rfl) dX5_copy_37
      refine lv_if_lt (tgt := 35) hx hb dX5_copy_23 (by decide) (fun hc => ?_) (fun hc => ?_)
      · have hw := hw.1 hc
        exact hJ_35 hp_6 nx_7 _ _ _ hw hl hH hz hS
      · have hw := hw.2 hc
        refine zr_aload_n (r := some h0) hx hb dX5_copy_26 rfl (lv_at hl 0 rfl) ?_
        obtain ⟨a_19, ci_20, fs_21, r_22, er, he, hc, hv, hw⟩ := zgR_e hw
        refine zw_get hk hH er he hv (fk_X5_165 hc) dX5_copy_27 ?_
        refine lv_iload_n hx hb dX5_copy_30 rfl (lv_at hl 3 rfl) ?_
        obtain ⟨a_23, n_24, f_25, er, he, hi, hw⟩ := zaI_e hw
        have hw := hw _ rfl
        refine zw_iald hk hH er he hi dX5_copy_31 ?_
        generalize f_25 x3.toNatClampNeg = x_26 at hw ⊢
        refine lv_if_ge (tgt := 38) hx hb dX5_copy_32 (by decide) (fun hc => ?_) (fun hc => ?_)
        · have hw := hw.1 hc
          refine zr_aload_n (r := some h0) hx hb dX5_copy_38 rfl (lv_at hl 0 rfl) ?_
          obtain ⟨a_27, ci_28, fs_29, r_30, er, he, hc, hv, hw⟩ := zgR_e hw
          refine zw_get hk hH er he hv (fk_X5_165 hc) dX5_copy_39 ?_
          refine lv_iload_n hx hb dX5_copy_42 rfl (lv_at hl 1 rfl) ?_
          obtain ⟨a_31, n_32, f_33, er, he, hi, hw⟩ := zaI_e hw
          have hw := hw _ rfl
          refine zw_iald hk hH er he hi dX5_copy_43 ?_
          generalize f_33 x1.toNatClampNeg = x_34 at hw ⊢
          refine zr_aload_n (r := some h0) hx hb dX5_copy_44 rfl (lv_at hl 0 rfl) ?_
          obtain ⟨a_35, ci_36, fs_37, r_38, er, he, hc, hv, hw⟩ := zgR_e hw
          refine zw_get hk hH er he hv (fk_X5_165 hc) dX5_copy_45 ?_
          refine lv_iload_n hx hb dX5_copy_48 rfl (lv_at hl 3 rfl) ?_
          obtain ⟨a_39, n_40, f_41, er, he, hi, hw⟩ := zaI_e hw
          have hw := hw _ rfl
          refine zw_iald hk hH er he hi dX5_copy_49 ?_
          generalize f_41 x3.toNatClampNeg = x_42 at hw ⊢
          refine lv_icmp_eq (tgt := 56) hx hb dX5_copy_50 (by decide) (fun hc => ?_) (fun hc => ?_)
          · have hw := hw.1 hc
            refine lv_iload hx hb dX5_copy_56 (lv_at hl 5 rfl) ?_
            obtain ⟨P_97, hP_97, hw⟩ := hw
            have hJ_97 : ∀ (hp_43 : zHp) (nx_44 : Nat) (H : Heap) (locs : List Loc) (ls : Array Slot), P_97 hp_43 nx_44 → lv_has ls 6 [(0, va_rf (some h0)), (1, .int x1), (2, .int x2), (3, .int x3), (4, .int x4), (5, .int x5)] → zHd g hp_43 H → H.size = nx_44 → va_S (zAd g) s.heap H locs → W p l e (zrm (d + 1) 0 0) s m ([.ref h0, .int x1, .int x2, .int x3, .int x4, .int x5] : List Value).toArray below meth c H locs 0 0 (MQ below (zQi g Post) ([.ref h0, .int x1, .int x2, .int x3, .int x4, .int x5] : List Value).toArray s 0 0 (zAd g)) (F0 m 97 ls []) := by
              intro hp_43 nx_44 H locs ls hw hl hH hz hS
              have hw := hP_97 hp_43 nx_44 hw
              refine lv_bipush (v := (-12 : Int32)) hx hb dX5_copy_97 (by decide) ?_
              exact zr_iret hk hr hH hz hS hw (Nat.le_of_ble_eq_true rfl) (Nat.le_of_ble_eq_true rfl) dX5_copy_99
            refine lv_if_lt (tgt := 97) hx hb dX5_copy_58 (by decide) (fun hc => ?_) (fun hc => ?_)
            · have hw := hw.1 hc
              exact hJ_97 hp_6 nx_7 _ _ _ hw hl hH hz hS
            · have hw := hw.2 hc
              refine lv_iload_n hx hb dX5_copy_61 rfl (lv_at hl 2 rfl) ?_
              refine lv_if_lt (tgt := 97) hx hb dX5_copy_62 (by decide) (fun hc => ?_) (fun hc => ?_)
              · have hw := hw.1 hc
                exact hJ_97 hp_6 nx_7 _ _ _ hw hl hH hz hS
              · have hw := hw.2 hc
                refine lv_iload hx hb dX5_copy_65 (lv_at hl 4 rfl) ?_
                refine lv_if_lt (tgt := 97) hx hb dX5_copy_67 (by decide) (fun hc => ?_) (fun hc => ?_)
                · have hw := hw.1 hc
                  exact hJ_97 hp_6 nx_7 _ _ _ hw hl hH hz hS
                · have hw := hw.2 hc
                  refine lv_iload_n hx hb dX5_copy_70 rfl (lv_at hl 2 rfl) ?_
                  refine zr_aload_n (r := some h0) hx hb dX5_copy_71 rfl (lv_at hl 0 rfl) ?_
                  obtain ⟨a_45, ci_46, fs_47, r_48, er, he, hc, hv, hw⟩ := zgR_e hw
                  refine zw_get hk hH er he hv (fk_X5_168 hc) dX5_copy_72 ?_
                  refine lv_iload_n hx hb dX5_copy_75 rfl (lv_at hl 1 rfl) ?_
                  obtain ⟨a_49, n_50, f_51, er, he, hi, hw⟩ := zaI_e hw
                  have hw := hw _ rfl
                  refine zw_iald hk hH er he hi dX5_copy_76 ?_
                  generalize f_51 x1.toNatClampNeg = x_52 at hw ⊢
                  refine lv_iload hx hb dX5_copy_77 (lv_at hl 5 rfl) ?_
                  refine lv_isub hx hb dX5_copy_79 ?_
                  refine lv_icmp_gt (tgt := 97) hx hb dX5_copy_80 (by decide) (fun hc => ?_) (fun hc => ?_)
                  · have hw := hw.1 hc
                    exact hJ_97 hp_6 nx_7 _ _ _ hw hl hH hz hS
                  · have hw := hw.2 hc
                    refine lv_iload hx hb dX5_copy_83 (lv_at hl 4 rfl) ?_
                    refine zr_aload_n (r := some h0) hx hb dX5_copy_85 rfl (lv_at hl 0 rfl) ?_
                    obtain ⟨a_53, ci_54, fs_55, r_56, er, he, hc, hv, hw⟩ := zgR_e hw
                    refine zw_get hk hH er he hv (fk_X5_168 hc) dX5_copy_86 ?_
                    refine lv_iload_n hx hb dX5_copy_89 rfl (lv_at hl 3 rfl) ?_
                    obtain ⟨a_57, n_58, f_59, er, he, hi, hw⟩ := zaI_e hw
                    have hw := hw _ rfl
                    refine zw_iald hk hH er he hi dX5_copy_90 ?_
                    generalize f_59 x3.toNatClampNeg = x_60 at hw ⊢
                    refine lv_iload hx hb dX5_copy_91 (lv_at hl 5 rfl) ?_
                    refine lv_isub hx hb dX5_copy_93 ?_
                    refine lv_icmp_le (tgt := 100) hx hb dX5_copy_94 (by decide) (fun hc => ?_) (fun hc => ?_)
                    · have hw := hw.1 hc
                      refine zr_aload_n (r := some h0) hx hb dX5_copy_100 rfl (lv_at hl 0 rfl) ?_
                      obtain ⟨a_61, ci_62, fs_63, r_64, er, he, hc, hv, hw⟩ := zgR_e hw
                      refine zw_get hk hH er he hv (fk_X5_171 hc) dX5_copy_101 ?_
                      refine lv_iload_n hx hb dX5_copy_104 rfl (lv_at hl 1 rfl) ?_
                      obtain ⟨a_65, n_66, f_67, er, he, hi, hw⟩ := zaR_e hw
                      have hw := hw _ rfl
                      refine zw_aald hk hH 15 er he rfl rfl hi dX5_copy_105 ?_
                      generalize f_67 x1.toNatClampNeg = r_68 at hw ⊢
                      refine lv_iload_n hx hb dX5_copy_106 rfl (lv_at hl 2 rfl) ?_
                      refine zr_aload_n (r := some h0) hx hb dX5_copy_107 rfl (lv_at hl 0 rfl) ?_
                      obtain ⟨a_69, ci_70, fs_71, r_72, er, he, hc, hv, hw⟩ := zgR_e hw
                      refine zw_get hk hH er he hv (fk_X5_177 hc) dX5_copy_108 ?_
                      refine lv_iconst (v := (0 : Int32)) hx hb dX5_copy_111 (by decide) ?_
                      refine lv_iload hx hb dX5_copy_112 (lv_at hl 5 rfl) ?_
                      obtain ⟨a_73, n_75, f_77, er0, he0, hw⟩ := zaD_e hw
                      obtain ⟨a_74, n_76, f_78, er1, he1, hA, h1, h2, h3, h4, h5, hft, hw⟩ := zaD_e hw
                      obtain ⟨hp_79, eh⟩ : ∃ y : zHp, y = va_up hp_6 a_74 (some (.inl (g.2.1 1, n_76, .inr (.inr (.inr (.inl (va_cpy f_77 f_78 x2.toNatClampNeg (0 : Int32).toNatClampNeg x5.toNatClampNeg))))))) := ⟨_, rfl⟩
                      have hw := hw hp_79 eh
                      refine zw_copyD (r0 := r_68) (r1 := r_72) (ty := .double) hk hH hz hS hl.1 q3171 q432 q431 q145 1 er0 er1 he0 he1 rfl rfl hA h1 h2 h3 h4 h5 hft eh (Nat.le_add_left 1 d) (Nat.le_trans (Nat.le_of_ble_eq_true rfl : _ ≤ 64) (by show 64 ≤ 64 * (d + 1); omega)) dX5_copy_114 (fun H locs hH hz hS => ?_)
                      refine zr_aload_n (r := some h0) hx hb dX5_copy_117 rfl (lv_at hl 0 rfl) ?_
                      obtain ⟨a_80, ci_81, fs_82, r_83, er, he, hc, hv, hw⟩ := zgR_e hw
                      refine zw_get hk hH er he hv (fk_X5_174 hc) dX5_copy_118 ?_
                      refine lv_iload_n hx hb dX5_copy_121 rfl (lv_at hl 1 rfl) ?_
                      obtain ⟨a_84, n_85, f_86, er, he, hi, hw⟩ := zaR_e hw
                      have hw := hw _ rfl
                      refine zw_aald hk hH 16 er he rfl rfl hi dX5_copy_122 ?_
                      generalize f_86 x1.toNatClampNeg = r_87 at hw ⊢
                      refine lv_iload_n hx hb dX5_copy_123 rfl (lv_at hl 2 rfl) ?_
                      refine zr_aload_n (r := some h0) hx hb dX5_copy_124 rfl (lv_at hl 0 rfl) ?_
                      obtain ⟨a_88, ci_89, fs_90, r_91, er, he, hc, hv, hw⟩ := zgR_e hw
                      refine zw_get hk hH er he hv (fk_X5_180 hc) dX5_copy_125 ?_
                      refine lv_iconst (v := (0 : Int32)) hx hb dX5_copy_128 (by decide) ?_
                      refine lv_iload hx hb dX5_copy_129 (lv_at hl 5 rfl) ?_
                      obtain ⟨a_92, n_94, f_96, er0, he0, hw⟩ := zaI_e hw
                      obtain ⟨a_93, n_95, f_97, er1, he1, hA, h1, h2, h3, h4, h5, hft, hw⟩ := zaI_e hw
                      obtain ⟨hp_98, eh⟩ : ∃ y : zHp, y = va_up hp_79 a_93 (some (.inl (g.2.1 3, n_95, .inl (va_cpy f_96 f_97 x2.toNatClampNeg (0 : Int32).toNatClampNeg x5.toNatClampNeg)))) := ⟨_, rfl⟩
                      have hw := hw hp_98 eh
                      refine zw_copyI (r0 := r_87) (r1 := r_91) (ty := .boolean) hk hH hz hS hl.1 q3171 q432 q431 q145 3 er0 er1 he0 he1 rfl rfl hA h1 h2 h3 h4 h5 hft eh (Nat.le_add_left 1 d) (Nat.le_trans (Nat.le_of_ble_eq_true rfl : _ ≤ 64) (by show 64 ≤ 64 * (d + 1); omega)) dX5_copy_131 (fun H locs hH hz hS => ?_)
                      refine zr_aload_n (r := some h0) hx hb dX5_copy_134 rfl (lv_at hl 0 rfl) ?_
                      obtain ⟨a_99, ci_100, fs_101, r_102, er, he, hc, hv, hw⟩ := zgR_e hw
                      refine zw_get hk hH er he hv (fk_X5_177 hc) dX5_copy_135 ?_
                      refine lv_iconst (v := (0 : Int32)) hx hb dX5_copy_138 (by decide) ?_
                      refine zr_aload_n (r := some h0) hx hb dX5_copy_139 rfl (lv_at hl 0 rfl) ?_
                      obtain ⟨a_103, ci_104, fs_105, r_106, er, he, hc, hv, hw⟩ := zgR_e hw
                      refine zw_get hk hH er he hv (fk_X5_171 hc) dX5_copy_140 ?_
                      refine lv_iload_n hx hb dX5_copy_143 rfl (lv_at hl 3 rfl) ?_
                      obtain ⟨a_107, n_108, f_109, er, he, hi, hw⟩ := zaR_e hw
                      have hw := hw _ rfl
                      refine zw_aald hk hH 15 er he rfl rfl hi dX5_copy_144 ?_
                      generalize f_109 x3.toNatClampNeg = r_110 at hw ⊢
                      refine lv_iload hx hb dX5_copy_145 (lv_at hl 4 rfl) ?_
                      refine lv_iload hx hb dX5_copy_147 (lv_at hl 5 rfl) ?_
                      obtain ⟨a_111, n_113, f_115, er0, he0, hw⟩ := zaD_e hw
                      obtain ⟨a_112, n_114, f_116, er1, he1, hA, h1, h2, h3, h4, h5, hft, hw⟩ := zaD_e hw
                      obtain ⟨hp_117, eh⟩ : ∃ y : zHp, y = va_up hp_98 a_112 (some (.inl (g.2.1 1, n_114, .inr (.inr (.inr (.inl (va_cpy f_115 f_116 (0 : Int32).toNatClampNeg x4.toNatClampNeg x5.toNatClampNeg))))))) := ⟨_, rfl⟩
                      have hw := hw hp_117 eh
                      refine zw_copyD (r0 := r_102) (r1 := r_110) (ty := .double) hk hH hz hS hl.1 q3171 q432 q431 q145 1 er0 er1 he0 he1 rfl rfl hA h1 h2 h3 h4 h5 hft eh (Nat.le_add_left 1 d) (Nat.le_trans (Nat.le_of_ble_eq_true rfl : _ ≤ 64) (by show 64 ≤ 64 * (d + 1); omega)) dX5_copy_149 (fun H locs hH hz hS => ?_)
                      refine zr_aload_n (r := some h0) hx hb dX5_copy_152 rfl (lv_at hl 0 rfl) ?_
                      obtain ⟨a_118, ci_119, fs_120, r_121, er, he, hc, hv, hw⟩ := zgR_e hw
                      refine zw_get hk hH er he hv (fk_X5_180 hc) dX5_copy_153 ?_
                      refine lv_iconst (v := (0 : Int32)) hx hb dX5_copy_156 (by decide) ?_
                      refine zr_aload_n (r := some h0) hx hb dX5_copy_157 rfl (lv_at hl 0 rfl) ?_
                      obtain ⟨a_122, ci_123, fs_124, r_125, er, he, hc, hv, hw⟩ := zgR_e hw
                      refine zw_get hk hH er he hv (fk_X5_174 hc) dX5_copy_158 ?_
                      refine lv_iload_n hx hb dX5_copy_161 rfl (lv_at hl 3 rfl) ?_
                      obtain ⟨a_126, n_127, f_128, er, he, hi, hw⟩ := zaR_e hw
                      have hw := hw _ rfl
                      refine zw_aald hk hH 16 er he rfl rfl hi dX5_copy_162 ?_
                      generalize f_128 x3.toNatClampNeg = r_129 at hw ⊢
                      refine lv_iload hx hb dX5_copy_163 (lv_at hl 4 rfl) ?_
                      refine lv_iload hx hb dX5_copy_165 (lv_at hl 5 rfl) ?_
                      obtain ⟨a_130, n_132, f_134, er0, he0, hw⟩ := zaI_e hw
                      obtain ⟨a_131, n_133, f_135, er1, he1, hA, h1, h2, h3, h4, h5, hft, hw⟩ := zaI_e hw
                      obtain ⟨hp_136, eh⟩ : ∃ y : zHp, y = va_up hp_117 a_131 (some (.inl (g.2.1 3, n_133, .inl (va_cpy f_134 f_135 (0 : Int32).toNatClampNeg x4.toNatClampNeg x5.toNatClampNeg)))) := ⟨_, rfl⟩
                      have hw := hw hp_136 eh
                      refine zw_copyI (r0 := r_121) (r1 := r_129) (ty := .boolean) hk hH hz hS hl.1 q3171 q432 q431 q145 3 er0 er1 he0 he1 rfl rfl hA h1 h2 h3 h4 h5 hft eh (Nat.le_add_left 1 d) (Nat.le_trans (Nat.le_of_ble_eq_true rfl : _ ≤ 64) (by show 64 ≤ 64 * (d + 1); omega)) dX5_copy_167 (fun H locs hH hz hS => ?_)
                      refine lv_iload hx hb dX5_copy_170 (lv_at hl 5 rfl) ?_
                      exact zr_iret hk hr hH hz hS hw (Nat.le_of_ble_eq_true rfl) (Nat.le_of_ble_eq_true rfl) dX5_copy_172
                    · have hw := hw.2 hc
                      exact hJ_97 hp_6 nx_7 _ _ _ hw hl hH hz hS
          · have hw := hw.2 hc
            refine lv_bipush (v := (-13 : Int32)) hx hb dX5_copy_53 (by decide) ?_
            exact zr_iret hk hr hH hz hS hw (Nat.le_of_ble_eq_true rfl) (Nat.le_of_ble_eq_true rfl) dX5_copy_55
        · have hw := hw.2 hc
          exact hJ_35 hp_6 nx_7 _ _ _ hw hl hH hz hS
    · have hw := hw.1 hc
      exact hJ_14 hp_6 nx_7 _ _ _ hw hl hH hz hS
