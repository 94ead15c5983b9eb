set_option maxRecDepth 100000
theorem fk_X3_9 {ci : Nat} (h : ci ∈ [3]) : zFk "WhatIfSheet$Row" 9 ci 0 := by
  simp only [List.mem_cons, List.not_mem_nil, or_false] at h
  rcases h with rfl
  · exact ⟨RX3, TX3, 1, rfl, by decide, q675⟩
def wp_X3_puts (l : Launch) (g : zG) (d : Nat) (h0 : Nat) (x1 : Int32) (x2 : Int32) (hp : zHp) (nx : Nat) (Post : zHp → Nat → Prop) : Prop :=
  (zgR hp (some h0) [3] 0 fun r_4 =>
  (zIA g hp r_4 2 fun x_5 =>
  (∃ P_91 : zHp → Prop, (∀ (hp_6 : zHp), P_91 hp_6 →
  (Post hp_6 nx)) ∧
  ((x_5 = 0 →
  (zgR hp (some h0) [3] 0 fun r_10 =>
  (zIA g hp r_10 0 fun x_11 =>
  ((x_11 = 0 →
  (zgR hp (some h0) [3] 0 fun r_15 =>
  (zIA g hp r_15 5 fun x_16 =>
  ((x_16 = 0 →
  (zgR hp (some h0) [3] 0 fun r_20 =>
  (zCA (g.2.1 1) hp r_20 ∧ (vf_n64 (FP.ddiv (FP.i2d x2) (4620693217682128896 : UInt64)) ∧ (zaD (g.2.1 1) hp r_20 fun a_21 n_22 f_23 => vp_in x1 n_22 ∧ zB g ≤ a_21 ∧ ∀ hp_24 : zHp, hp_24 = va_up hp a_21 (some (.inl (g.2.1 1, n_22, .inr (.inr (.inr (.inl (va_up f_23 x1.toNatClampNeg (FP.ddiv (FP.i2d x2) (4620693217682128896 : UInt64))))))))) →
  P_91 hp_24))))) ∧
  (¬ x_16 = 0 →
  (zgR hp (some h0) [3] 0 fun r_28 =>
  (zCA (g.2.1 5) hp r_28 ∧ (vf_n64 (FP.ddiv (FP.i2d x2) (4620693217682128896 : UInt64)) ∧ (vf_n32 (FP.d2f (FP.ddiv (FP.i2d x2) (4620693217682128896 : UInt64))) ∧ (zaF (g.2.1 5) hp r_28 fun a_29 n_30 f_31 => vp_in x1 n_30 ∧ zB g ≤ a_29 ∧ ∀ hp_32 : zHp, hp_32 = va_up hp a_29 (some (.inl (g.2.1 5, n_30, .inr (.inr (.inl (va_up f_31 x1.toNatClampNeg (FP.d2f (FP.ddiv (FP.i2d x2) (4620693217682128896 : UInt64))))))))) →
  P_91 hp_32)))))))))) ∧
  (¬ x_11 = 0 →
  (zgR hp (some h0) [3] 0 fun r_36 =>
  (zCA (g.2.1 0) hp r_36 ∧ (zaI (g.2.1 0) hp r_36 fun a_37 n_38 f_39 => vp_in x1 n_38 ∧ zB g ≤ a_37 ∧ ∀ hp_40 : zHp, hp_40 = va_up hp a_37 (some (.inl (g.2.1 0, n_38, .inl (va_up f_39 x1.toNatClampNeg x2)))) →
  P_91 hp_40)))))))) ∧
  (¬ x_5 = 0 →
  (zgR hp (some h0) [3] 0 fun r_44 =>
  (zCA (g.2.1 2) hp r_44 ∧ (zaI (g.2.1 2) hp r_44 fun a_45 n_46 f_47 => vp_in x1 n_46 ∧ zB g ≤ a_45 ∧ ∀ hp_48 : zHp, hp_48 = va_up hp a_45 (some (.inl (g.2.1 2, n_46, .inl (va_up f_47 x1.toNatClampNeg (vp_nar .byte x2.toInt8.toInt32))))) →
  P_91 hp_48))))))))
set_option maxHeartbeats 40000000 in
theorem met_X3_puts {l : Launch} {g : zG} {d : Nat} {h0 : Nat} {x1 : Int32} {x2 : Int32} {hp : zHp} {nx : Nat} {Post : zHp → Nat → Prop} (hw : wp_X3_puts l g d h0 x1 x2 hp nx Post) : zMt l g yX3_puts cX3_puts 3 none (d + 1) 0 0 [.ref h0, .int x1, .int x2] hp nx (zQv g Post) := by
  refine z_start (by decide) (Nat.le_of_ble_eq_true rfl) ?_
  intro p e s m below meth c hk hr hin hH hz ls hl
  have hx := hk.1.1
  have hb := hk.1.2.1
  have hown := hk.1.2.2.2.1
  have hts := hk.1.2.2.2.2
  have hS : va_S (zAd g) s.heap s.heap [] := va_S.rf
  have hl : lv_has ls 3 [(0, va_rf (some h0)), (1, .int x1), (2, .int x2)] := hl
  unfold wp_X3_puts at hw
  refine zr_aload_n (r := some h0) hx hb dX3_puts_0 rfl (lv_at hl 0 rfl) ?_
  obtain ⟨a_1, ci_2, fs_3, r_4, er, he, hc, hv, hw⟩ := zgR_e hw
  refine zw_get hk hH er he hv (fk_X3_9 hc) dX3_puts_1 ?_
  refine zw_instA (r := r_4) hk hH 2 (by decide) q2625 hw dX3_puts_4 (fun x_5 hw => ?_)
  obtain ⟨P_91, hP_91, hw⟩ := hw
  have hJ_91 : ∀ (hp_6 : zHp) (H : Heap) (locs : List Loc) (ls : Array Slot), P_91 hp_6 → lv_has ls 3 [(0, va_rf (some h0)), (1, .int x1), (2, .int x2)] → zHd g hp_6 H → H.size = nx → va_S (zAd g) s.heap H locs → W p l e (zrm (d + 1) 0 0) s m ([.ref h0, .int x1, .int x2] : List Value).toArray below meth c H locs 0 0 (MQ below (zQv g Post) ([.ref h0, .int x1, .int x2] : List Value).toArray s 0 0 (zAd g)) (F0 m 91 ls []) := by
    intro hp_6 H locs ls hw hl hH hz hS
    have hw := hP_91 hp_6 hw
    exact zr_vret hk hr hH hz hS hw (Nat.le_of_ble_eq_true rfl) (Nat.le_of_ble_eq_true rfl) dX3_puts_91
  refine lv_if_eq (tgt := 24) hx hb dX3_puts_7 (by decide) (fun hc => ?_) (fun hc => ?_)
  · have hw := hw.1 hc
    refine zr_aload_n (r := some h0) hx hb dX3_puts_24 rfl (lv_at hl 0 rfl) ?_
    obtain ⟨a_7, ci_8, fs_9, r_10, er, he, hc, hv, hw⟩ := zgR_e hw
    refine zw_get hk hH er he hv (fk_X3_9 hc) dX3_puts_25 ?_
    refine zw_instA (r := r_10) hk hH 0 (by decide) q2626 hw dX3_puts_28 (fun x_11 hw => ?_)
    refine lv_if_eq (tgt := 47) hx hb dX3_puts_31 (by decide) (fun hc => ?_) (fun hc => ?_)
    · have hw := hw.1 hc
      refine zr_aload_n (r := some h0) hx hb dX3_puts_47 rfl (lv_at hl 0 rfl) ?_
      obtain ⟨a_12, ci_13, fs_14, r_15, er, he, hc, hv, hw⟩ := zgR_e hw
      refine zw_get hk hH er he hv (fk_X3_9 hc) dX3_puts_48 ?_
      refine zw_instA (r := r_15) hk hH 5 (by decide) q2627 hw dX3_puts_51 (fun x_16 hw => ?_)
      refine lv_if_eq (tgt := 76) hx hb dX3_puts_54 (by decide) (fun hc => ?_) (fun hc => ?_)
      · have hw := hw.1 hc
        refine zr_aload_n (r := some h0) hx hb dX3_puts_76 rfl (lv_at hl 0 rfl) ?_
        obtain ⟨a_17, ci_18, fs_19, r_20, er, he, hc, hv, hw⟩ := zgR_e hw
        refine zw_get hk hH er he hv (fk_X3_9 hc) dX3_puts_77 ?_
        obtain ⟨hca, hw⟩ := hw
        refine zw_castA (r := r_20) (ty := .double) hk hH 1 q2629 rfl (fun _ _ h => h) hca dX3_puts_80 ?_
        refine lv_iload_n hx hb dX3_puts_83 rfl (lv_at hl 1 rfl) ?_
        refine lv_iload_n hx hb dX3_puts_84 rfl (lv_at hl 2 rfl) ?_
        refine lv_i2d hx hb dX3_puts_85 ?_
        refine lv_ldc2d hx hb hown (hts _ q2628) dX3_puts_86 ?_
        obtain ⟨hne, hw⟩ := hw
        refine lv_ddiv hx hb dX3_puts_89 hne ?_
        obtain ⟨a_21, n_22, f_23, er, he, hi, hA, hw⟩ := zaD_e hw
        obtain ⟨hp_24, eh⟩ : ∃ y : zHp, y = va_up hp a_21 (some (.inl (g.2.1 1, n_22, .inr (.inr (.inr (.inl (va_up f_23 x1.toNatClampNeg (FP.ddiv (FP.i2d x2) (4620693217682128896 : UInt64))))))))) := ⟨_, rfl⟩
        have hw := hw hp_24 eh
        refine zw_dast hk hH hz hS er he hi hA eh dX3_puts_90 (fun H locs hH hz hS => ?_)
        exact hJ_91 hp_24 _ _ _ hw hl hH hz hS
      · have hw := hw.2 hc
        refine zr_aload_n (r := some h0) hx hb dX3_puts_57 rfl (lv_at hl 0 rfl) ?_
        obtain ⟨a_25, ci_26, fs_27, r_28, er, he, hc, hv, hw⟩ := zgR_e hw
        refine zw_get hk hH er he hv (fk_X3_9 hc) dX3_puts_58 ?_
        obtain ⟨hca, hw⟩ := hw
        refine zw_castA (r := r_28) (ty := .float) hk hH 5 q2627 rfl (fun _ _ h => h) hca dX3_puts_61 ?_
        refine lv_iload_n hx hb dX3_puts_64 rfl (lv_at hl 1 rfl) ?_
        refine lv_iload_n hx hb dX3_puts_65 rfl (lv_at hl 2 rfl) ?_
        refine lv_i2d hx hb dX3_puts_66 ?_
        refine lv_ldc2d hx hb hown (hts _ q2628) dX3_puts_67 ?_
        obtain ⟨hne, hw⟩ := hw
        refine lv_ddiv hx hb dX3_puts_70 hne ?_
        obtain ⟨hne, hw⟩ := hw
        refine lv_d2f hx hb dX3_puts_71 hne ?_
        obtain ⟨a_29, n_30, f_31, er, he, hi, hA, hw⟩ := zaF_e hw
        obtain ⟨hp_32, eh⟩ : ∃ y : zHp, y = va_up hp a_29 (some (.inl (g.2.1 5, n_30, .inr (.inr (.inl (va_up f_31 x1.toNatClampNeg (FP.d2f (FP.ddiv (FP.i2d x2) (4620693217682128896 : UInt64))))))))) := ⟨_, rfl⟩
        have hw := hw hp_32 eh
        refine zw_fast hk hH hz hS er he hi hA eh dX3_puts_72 (fun H locs hH hz hS => ?_)
        refine lv_goto (tgt := 91) hx hb dX3_puts_73 (by decide) ?_
        exact hJ_91 hp_32 _ _ _ hw hl hH hz hS
    · have hw := hw.2 hc
      refine zr_aload_n (r := some h0) hx hb dX3_puts_34 rfl (lv_at hl 0 rfl) ?_
      obtain ⟨a_33, ci_34, fs_35, r_36, er, he, hc, hv, hw⟩ := zgR_e hw
      refine zw_get hk hH er he hv (fk_X3_9 hc) dX3_puts_35 ?_
      obtain ⟨hca, hw⟩ := hw
      refine zw_castA (r := r_36) (ty := .int) hk hH 0 q2626 rfl (fun _ _ h => h) hca dX3_puts_38 ?_
      refine lv_iload_n hx hb dX3_puts_41 rfl (lv_at hl 1 rfl) ?_
      refine lv_iload_n hx hb dX3_puts_42 rfl (lv_at hl 2 rfl) ?_
      obtain ⟨a_37, n_38, f_39, er, he, hi, hA, hw⟩ := zaI_e hw
      obtain ⟨hp_40, eh⟩ : ∃ y : zHp, y = va_up hp a_37 (some (.inl (g.2.1 0, n_38, .inl (va_up f_39 x1.toNatClampNeg x2)))) := ⟨_, rfl⟩
      have hw := hw hp_40 eh
      refine zw_iast hk hH hz hS er he hi hA eh dX3_puts_43 (fun H locs hH hz hS => ?_)
      refine lv_goto (tgt := 91) hx hb dX3_puts_44 (by decide) ?_
      exact hJ_91 hp_40 _ _ _ hw hl hH hz hS
  · have hw := hw.2 hc
    refine zr_aload_n (r := some h0) hx hb dX3_puts_10 rfl (lv_at hl 0 rfl) ?_
    obtain ⟨a_41, ci_42, fs_43, r_44, er, he, hc, hv, hw⟩ := zgR_e hw
    refine zw_get hk hH er he hv (fk_X3_9 hc) dX3_puts_11 ?_
    obtain ⟨hca, hw⟩ := hw
    refine zw_castA (r := r_44) (ty := .byte) hk hH 2 q2625 rfl (fun _ _ h => h) hca dX3_puts_14 ?_
    refine lv_iload_n hx hb dX3_puts_17 rfl (lv_at hl 1 rfl) ?_
    refine lv_iload_n hx hb dX3_puts_18 rfl (lv_at hl 2 rfl) ?_
    refine lv_i2b hx hb dX3_puts_19 rfl ?_
    obtain ⟨a_45, n_46, f_47, er, he, hi, hA, hw⟩ := zaI_e hw
    obtain ⟨hp_48, eh⟩ : ∃ y : zHp, y = va_up hp a_45 (some (.inl (g.2.1 2, n_46, .inl (va_up f_47 x1.toNatClampNeg (vp_nar .byte x2.toInt8.toInt32))))) := ⟨_, rfl⟩
    have hw := hw hp_48 eh
    refine zw_bast hk hH hz hS er he hi hA eh dX3_puts_20 (fun H locs hH hz hS => ?_)
    refine lv_goto (tgt := 91) hx hb dX3_puts_21 (by decide) ?_
    exact hJ_91 hp_48 _ _ _ hw hl hH hz hS
def wp_X3_bits (l : Launch) (g : zG) (d : Nat) (h0 : Nat) (x1 : Int32) (hp : zHp) (nx : Nat) (Post : Int64 → zHp → Nat → Prop) : Prop :=
  (zgR hp (some h0) [3] 0 fun r_4 =>
  (zIA g hp r_4 2 fun x_5 =>
  (∃ P_82 : UInt64 → zHp → Nat → Prop, (∀ (x_6 : UInt64) (hp_7 : zHp) (nx_8 : Nat), P_82 x_6 hp_7 nx_8 →
  (∃ P_98 : UInt64 → Int64 → zHp → Nat → Prop, (∀ (x_9 : UInt64) (x_10 : Int64) (hp_11 : zHp) (nx_12 : Nat), P_98 x_9 x_10 hp_11 nx_12 →
  (Post x_10 hp_11 nx_12)) ∧
  (((Op.cmpValue (FP.dcmp x_6 x_6) .l) = 0 →
  (zMt l g yJ23_doubleToLongBits cJ23_doubleToLongBits 2 (some .long) d 0 0 [.double x_6] hp_7 nx_8 (zQl g fun x_15 hp_13 nx_14 =>
  P_98 x_6 x_15 hp_13 nx_14))) ∧
  (¬ (Op.cmpValue (FP.dcmp x_6 x_6) .l) = 0 →
  P_98 x_6 (-1 : Int64) hp_7 nx_8)))) ∧
  ((x_5 = 0 →
  (zgR hp (some h0) [3] 0 fun r_19 =>
  (zIA g hp r_19 0 fun x_20 =>
  ((x_20 = 0 →
  (zgR hp (some h0) [3] 0 fun r_24 =>
  (zIA g hp r_24 5 fun x_25 =>
  ((x_25 = 0 →
  (zgR hp (some h0) [3] 0 fun r_29 =>
  (zCA (g.2.1 1) hp r_29 ∧ (zaD (g.2.1 1) hp r_29 fun a_30 n_31 f_32 => vp_in x1 n_31 ∧ ∀ x_33 : UInt64, x_33 = f_32 x1.toNatClampNeg →
  P_82 x_33 hp nx)))) ∧
  (¬ x_25 = 0 →
  (zgR hp (some h0) [3] 0 fun r_37 =>
  (zCA (g.2.1 5) hp r_37 ∧ (zaF (g.2.1 5) hp r_37 fun a_38 n_39 f_40 => vp_in x1 n_39 ∧ ∀ x_41 : UInt32, x_41 = f_40 x1.toNatClampNeg →
  (vf_n64 (FP.f2d x_41) ∧ (∀ x_42 : UInt64, x_42 = FP.f2d x_41 →
  P_82 x_42 hp nx)))))))))) ∧
  (¬ x_20 = 0 →
  (zgR hp (some h0) [3] 0 fun r_46 =>
  (zCA (g.2.1 0) hp r_46 ∧ (zaI (g.2.1 0) hp r_46 fun a_47 n_48 f_49 => vp_in x1 n_48 ∧ ∀ x_50 : Int32, x_50 = f_49 x1.toNatClampNeg →
  (∀ x_51 : UInt64, x_51 = FP.i2d x_50 →
  P_82 x_51 hp nx))))))))) ∧
  (¬ x_5 = 0 →
  (zgR hp (some h0) [3] 0 fun r_55 =>
  (zCA (g.2.1 2) hp r_55 ∧ (zaI (g.2.1 2) hp r_55 fun a_56 n_57 f_58 => vp_in x1 n_57 ∧ ∀ x_59 : Int32, x_59 = f_58 x1.toNatClampNeg →
  (∀ x_60 : UInt64, x_60 = FP.i2d x_59 →
  P_82 x_60 hp nx)))))))))
set_option maxHeartbeats 40000000 in
theorem met_X3_bits {l : Launch} {g : zG} {d : Nat} {h0 : Nat} {x1 : Int32} {hp : zHp} {nx : Nat} {Post : Int64 → zHp → Nat → Prop} (hw : wp_X3_bits l g d h0 x1 hp nx Post) : zMt l g yX3_bits cX3_bits 4 (some .long) (d + 1) 0 0 [.ref h0, .int x1] hp nx (zQl g Post) := by
  refine z_start (by decide) (Nat.le_of_ble_eq_true rfl) ?_
  intro p e s m below meth c hk hr hin hH hz ls hl
  have hx := hk.1.1
  have hb := hk.1.2.1
  have hown := hk.1.2.2.2.1
  have hts := hk.1.2.2.2.2
  have hS : va_S (zAd g) s.heap s.heap [] := va_S.rf
  have hl : lv_has ls 4 [(0, va_rf (some h0)), (1, .int x1)] := hl
  unfold wp_X3_bits at hw
  refine zr_aload_n (r := some h0) hx hb dX3_bits_0 rfl (lv_at hl 0 rfl) ?_
  obtain ⟨a_1, ci_2, fs_3, r_4, er, he, hc, hv, hw⟩ := zgR_e hw
  refine zw_get hk hH er he hv (fk_X3_9 hc) dX3_bits_1 ?_
  refine zw_instA (r := r_4) hk hH 2 (by decide) q2625 hw dX3_bits_4 (fun x_5 hw => ?_)
  obtain ⟨P_82, hP_82, hw⟩ := hw
  have hJ_82 : ∀ (x_6 : UInt64) (hp_7 : zHp) (nx_8 : Nat) (H : Heap) (locs : List Loc) (ls : Array Slot), P_82 x_6 hp_7 nx_8 → lv_has ls 4 [(0, va_rf (some h0)), (1, .int x1), (2, .double x_6)] → zHd g hp_7 H → H.size = nx_8 → va_S (zAd g) s.heap H locs → W p l e (zrm (d + 1) 0 0) s m ([.ref h0, .int x1] : List Value).toArray below meth c H locs 0 0 (MQ below (zQl g Post) ([.ref h0, .int x1] : List Value).toArray s 0 0 (zAd g)) (F0 m 82 ls []) := by
    intro x_6 hp_7 nx_8 H locs ls hw hl hH hz hS
    have hw := hP_82 x_6 hp_7 nx_8 hw
    refine lv_dload_n hx hb dX3_bits_82 rfl (lv_at hl 2 rfl) ?_
    refine lv_dload_n hx hb dX3_bits_83 rfl (lv_at hl 2 rfl) ?_
    refine lv_dcmp hx hb dX3_bits_84 ?_
    obtain ⟨P_98, hP_98, hw⟩ := hw
    have hJ_98 : ∀ (x_9 : UInt64) (x_10 : Int64) (hp_11 : zHp) (nx_12 : Nat) (H : Heap) (locs : List Loc) (ls : Array Slot), P_98 x_9 x_10 hp_11 nx_12 → lv_has ls 4 [(0, va_rf (some h0)), (1, .int x1), (2, .double x_9)] → zHd g hp_11 H → H.size = nx_12 → va_S (zAd g) s.heap H locs → W p l e (zrm (d + 1) 0 0) s m ([.ref h0, .int x1] : List Value).toArray below meth c H locs 0 0 (MQ below (zQl g Post) ([.ref h0, .int x1] : List Value).toArray s 0 0 (zAd g)) (F0 m 98 ls [.long x_10]) := by
      intro x_9 x_10 hp_11 nx_12 H locs ls hw hl hH hz hS
      have hw := hP_98 x_9 x_10 hp_11 nx_12 hw
      exact zr_lret hk hr hH hz hS hw (Nat.le_of_ble_eq_true rfl) (Nat.le_of_ble_eq_true rfl) dX3_bits_98
    refine lv_if_eq (tgt := 94) hx hb dX3_bits_85 (by decide) (fun hc => ?_) (fun hc => ?_)
    · have hw := hw.1 hc
      refine lv_dload_n hx hb dX3_bits_94 rfl (lv_at hl 2 rfl) ?_
      refine zr_calll (zr_runS (As := [.double x_6]) hk hH hz hS hl.1 hw (va_cwS 1 hts (lw_S q2640 q2301 q168 q2302) rfl rfl rfl (by decide +kernel) (z_room (Nat.le_of_ble_eq_true rfl))) rfl rfl (Nat.le_of_ble_eq_true rfl) dX3_bits_95 ⟨Nat.le_of_ble_eq_true rfl, Nat.le_of_ble_eq_true rfl⟩) hS (fun x_15 hp_13 nx_14 hw H locs hH hz hS => ?_)
      exact hJ_98 x_6 x_15 hp_13 nx_14 _ _ _ hw hl hH hz hS
    · have hw := hw.2 hc
      refine lv_ldc2 hx hb hown (hts _ q2639) dX3_bits_88 ?_
      refine lv_goto (tgt := 98) hx hb dX3_bits_91 (by decide) ?_
      exact hJ_98 x_6 (-1 : Int64) hp_7 nx_8 _ _ _ hw hl hH hz hS
  refine lv_if_eq (tgt := 24) hx hb dX3_bits_7 (by decide) (fun hc => ?_) (fun hc => ?_)
  · have hw := hw.1 hc
    refine zr_aload_n (r := some h0) hx hb dX3_bits_24 rfl (lv_at hl 0 rfl) ?_
    obtain ⟨a_16, ci_17, fs_18, r_19, er, he, hc, hv, hw⟩ := zgR_e hw
    refine zw_get hk hH er he hv (fk_X3_9 hc) dX3_bits_25 ?_
    refine zw_instA (r := r_19) hk hH 0 (by decide) q2626 hw dX3_bits_28 (fun x_20 hw => ?_)
    refine lv_if_eq (tgt := 48) hx hb dX3_bits_31 (by decide) (fun hc => ?_) (fun hc => ?_)
    · have hw := hw.1 hc
      refine zr_aload_n (r := some h0) hx hb dX3_bits_48 rfl (lv_at hl 0 rfl) ?_
      obtain ⟨a_21, ci_22, fs_23, r_24, er, he, hc, hv, hw⟩ := zgR_e hw
      refine zw_get hk hH er he hv (fk_X3_9 hc) dX3_bits_49 ?_
      refine zw_instA (r := r_24) hk hH 5 (by decide) q2627 hw dX3_bits_52 (fun x_25 hw => ?_)
      refine lv_if_eq (tgt := 72) hx hb dX3_bits_55 (by decide) (fun hc => ?_) (fun hc => ?_)
      · have hw := hw.1 hc
        refine zr_aload_n (r := some h0) hx hb dX3_bits_72 rfl (lv_at hl 0 rfl) ?_
        obtain ⟨a_26, ci_27, fs_28, r_29, er, he, hc, hv, hw⟩ := zgR_e hw
        refine zw_get hk hH er he hv (fk_X3_9 hc) dX3_bits_73 ?_
        obtain ⟨hca, hw⟩ := hw
        refine zw_castA (r := r_29) (ty := .double) hk hH 1 q2629 rfl (fun _ _ h => h) hca dX3_bits_76 ?_
        refine lv_iload_n hx hb dX3_bits_79 rfl (lv_at hl 1 rfl) ?_
        obtain ⟨a_30, n_31, f_32, er, he, hi, hw⟩ := zaD_e hw
        have hw := hw _ rfl
        refine zw_dald hk hH er he hi dX3_bits_80 ?_
        generalize f_32 x1.toNatClampNeg = x_33 at hw ⊢
        refine lv_dstore_n (i := 2) (lv' := [(2, .double x_33), (0, va_rf (some h0)), (1, .int x1)]) hx hb dX3_bits_81 rfl hl (by decide) (by first | rfl | simp [List.filter_cons, z_cat, z_catI, z_catJ, z_catF, z_catD]) (fun ls hl => ?_)
        exact hJ_82 x_33 hp nx _ _ _ hw (lv_sub hl [1, 2, 0] rfl) hH hz hS
      · have hw := hw.2 hc
        refine zr_aload_n (r := some h0) hx hb dX3_bits_58 rfl (lv_at hl 0 rfl) ?_
        obtain ⟨a_34, ci_35, fs_36, r_37, er, he, hc, hv, hw⟩ := zgR_e hw
        refine zw_get hk hH er he hv (fk_X3_9 hc) dX3_bits_59 ?_
        obtain ⟨hca, hw⟩ := hw
        refine zw_castA (r := r_37) (ty := .float) hk hH 5 q2627 rfl (fun _ _ h => h) hca dX3_bits_62 ?_
        refine lv_iload_n hx hb dX3_bits_65 rfl (lv_at hl 1 rfl) ?_
        obtain ⟨a_38, n_39, f_40, er, he, hi, hw⟩ := zaF_e hw
        have hw := hw _ rfl
        refine zw_fald hk hH er he hi dX3_bits_66 ?_
        generalize f_40 x1.toNatClampNeg = x_41 at hw ⊢
        obtain ⟨hne, hw⟩ := hw
        refine lv_f2d hx hb dX3_bits_67 hne ?_
        refine lv_topd (fun x_42 ex_42 => ?_)
        have hw := hw x_42 ex_42
        refine lv_dstore_n (i := 2) (lv' := [(2, .double x_42), (0, va_rf (some h0)), (1, .int x1)]) hx hb dX3_bits_68 rfl hl (by decide) (by first | rfl | simp [List.filter_cons, z_cat, z_catI, z_catJ, z_catF, z_catD]) (fun ls hl => ?_)
        refine lv_goto (tgt := 82) hx hb dX3_bits_69 (by decide) ?_
        exact hJ_82 x_42 hp nx _ _ _ hw (lv_sub hl [1, 2, 0] rfl) hH hz hS
    · have hw := hw.2 hc
      refine zr_aload_n (r := some h0) hx hb dX3_bits_34 rfl (lv_at hl 0 rfl) ?_
      obtain ⟨a_43, ci_44, fs_45, r_46, er, he, hc, hv, hw⟩ := zgR_e hw
      refine zw_get hk hH er he hv (fk_X3_9 hc) dX3_bits_35 ?_
      obtain ⟨hca, hw⟩ := hw
      refine zw_castA (r := r_46) (ty := .int) hk hH 0 q2626 rfl (fun _ _ h => h) hca dX3_bits_38 ?_
      refine lv_iload_n hx hb dX3_bits_41 rfl (lv_at hl 1 rfl) ?_
      obtain ⟨a_47, n_48, f_49, er, he, hi, hw⟩ := zaI_e hw
      have hw := hw _ rfl
      refine zw_iald hk hH er he hi dX3_bits_42 ?_
      generalize f_49 x1.toNatClampNeg = x_50 at hw ⊢
      refine lv_i2d hx hb dX3_bits_43 ?_
      refine lv_topd (fun x_51 ex_51 => ?_)
      have hw := hw x_51 ex_51
      refine lv_dstore_n (i := 2) (lv' := [(2, .double x_51), (0, va_rf (some h0)), (1, .int x1)]) hx hb dX3_bits_44 rfl hl (by decide) (by first | rfl | simp [List.filter_cons, z_cat, z_catI, z_catJ, z_catF, z_catD]) (fun ls hl => ?_)
      refine lv_goto (tgt := 82) hx hb dX3_bits_45 (by decide) ?_
      exact hJ_82 x_51 hp nx _ _ _ hw (lv_sub hl [1, 2, 0] rfl) hH hz hS
  · have hw := hw.2 hc
    refine zr_aload_n (r := some h0) hx hb dX3_bits_10 rfl (lv_at hl 0 rfl) ?_
    obtain ⟨a_52, ci_53, fs_54, r_55, er, he, hc, hv, hw⟩ := zgR_e hw
    refine zw_get hk hH er he hv (fk_X3_9 hc) dX3_bits_11 ?_
    obtain ⟨hca, hw⟩ := hw
    refine zw_castA (r := r_55) (ty := .byte) hk hH 2 q2625 rfl (fun _ _ h => h) hca dX3_bits_14 ?_
    refine lv_iload_n hx hb dX3_bits_17 rfl (lv_at hl 1 rfl) ?_
    obtain ⟨a_56, n_57, f_58, er, he, hi, hw⟩ := zaI_e hw
    have hw := hw _ rfl
    refine zw_bald hk hH er he hi dX3_bits_18 ?_
    generalize f_58 x1.toNatClampNeg = x_59 at hw ⊢
    refine lv_i2d hx hb dX3_bits_19 ?_
    refine lv_topd (fun x_60 ex_60 => ?_)
    have hw := hw x_60 ex_60
    refine lv_dstore_n (i := 2) (lv' := [(2, .double x_60), (0, va_rf (some h0)), (1, .int x1)]) hx hb dX3_bits_20 rfl hl (by decide) (by first | rfl | simp [List.filter_cons, z_cat, z_catI, z_catJ, z_catF, z_catD]) (fun ls hl => ?_)
    refine lv_goto (tgt := 82) hx hb dX3_bits_21 (by decide) ?_
    exact hJ_82 x_60 hp nx _ _ _ hw (lv_sub hl [1, 2, 0] rfl) hH hz hS
def wp_J11_copyOfRange (l : Launch) (g : zG) (d : Nat) (mc ms : Nat) (r0 : Option Nat) (x1 : Int32) (x2 : Int32) (hp : zHp) (nx : Nat) (Post : Option Nat → zHp → Nat → Prop) : Prop :=
  (∃ P_10 : zHp → Nat → Nat → Nat → Prop, (∀ (hp_1 : zHp) (nx_2 : Nat) (kc_3 : Nat) (ks_4 : Nat), P_10 hp_1 nx_2 kc_3 ks_4 →
  (∃ c_5 s_6 : Nat, kc_3 + c_5 ≤ mc ∧ ks_4 + s_6 ≤ ms ∧ zMt l g yJ11_copyOfRangeByte cJ11_copyOfRangeByte 5 (some (.array .byte)) d c_5 s_6 [va_rf r0, .int x1, .int x2] hp_1 nx_2 (zQq g fun r_9 hp_7 nx_8 =>
  ((kc_3 + c_5) ≤ mc ∧ (ks_4 + s_6) ≤ ms ∧ Post r_9 hp_7 nx_8)))) ∧
  ((x1 = 0 →
  (zln (g.2.1 2) hp r0 fun x_12 =>
  ((x2 = x_12 →
  False) ∧
  (¬ x2 = x_12 →
  P_10 hp nx 0 0)))) ∧
  (¬ x1 = 0 →
  P_10 hp nx 0 0)))
set_option maxHeartbeats 40000000 in
theorem met_J11_copyOfRange {l : Launch} {g : zG} {d : Nat} {mc ms : Nat} {r0 : Option Nat} {x1 : Int32} {x2 : Int32} {hp : zHp} {nx : Nat} {Post : Option Nat → zHp → Nat → Prop} (hw : wp_J11_copyOfRange l g d mc ms r0 x1 x2 hp nx Post) : zMt l g yJ11_copyOfRange cJ11_copyOfRange 3 (some (.array .byte)) (d + 1) mc ms [va_rf r0, .int x1, .int x2] hp nx (zQq g Post) := by
  refine z_start (by decide) (by cases r0 <;> exact Nat.le_of_ble_eq_true rfl) ?_
  intro p e s m below meth c hk hr hin hH hz ls hl
  have hx := hk.1.1
  have hb := hk.1.2.1
  have hown := hk.1.2.2.2.1
  have hts := hk.1.2.2.2.2
  have hS : va_S (zAd g) s.heap s.heap [] := va_S.rf
  have hl : lv_has ls 3 [(0, va_rf r0), (1, .int x1), (2, .int x2)] := by cases r0 <;> exact hl
  unfold wp_J11_copyOfRange at hw
  refine lv_iload_n hx hb dJ11_copyOfRange_0 rfl (lv_at hl 1 rfl) ?_
  obtain ⟨P_10, hP_10, hw⟩ := hw
  have hJ_10 : ∀ (hp_1 : zHp) (nx_2 : Nat) (kc_3 : Nat) (ks_4 : Nat) (H : Heap) (locs : List Loc) (ls : Array Slot), P_10 hp_1 nx_2 kc_3 ks_4 → lv_has ls 3 [(0, va_rf r0), (1, .int x1), (2, .int x2)] → zHd g hp_1 H → H.size = nx_2 → va_S (zAd g) s.heap H locs → W p l e (zrm (d + 1) mc ms) s m ([va_rf r0, .int x1, .int x2] : List Value).toArray below meth c H locs kc_3 ks_4 (MQ below (zQq g Post) ([va_rf r0, .int x1, .int x2] : List Value).toArray s mc ms (zAd g)) (F0 m 10 ls []) := by
    intro hp_1 nx_2 kc_3 ks_4 H locs ls hw hl hH hz hS
    have hw := hP_10 hp_1 nx_2 kc_3 ks_4 hw
    refine zr_aload_n (r := r0) hx hb dJ11_copyOfRange_10 rfl (lv_at hl 0 rfl) ?_
    refine lv_iload_n hx hb dJ11_copyOfRange_11 rfl (lv_at hl 1 rfl) ?_
    refine lv_iload_n hx hb dJ11_copyOfRange_12 rfl (lv_at hl 2 rfl) ?_
    obtain ⟨c_5, s_6, hcl, hsl, hw⟩ := hw
    refine zr_callq (zr_runS (As := [va_rf r0, .int x1, .int x2]) hk hH hz hS hl.1 hw (va_cwS 3 hts (lw_S q562 q563 q144 q564) rfl rfl rfl (by decide +kernel) (z_room (Nat.le_of_ble_eq_true rfl))) rfl rfl (Nat.le_of_ble_eq_true rfl) dJ11_copyOfRange_13 ⟨hcl, hsl⟩) hS (fun r_9 hp_7 nx_8 hw H locs hH hz hS => ?_)
    obtain ⟨hkc, hks, hw⟩ := hw
    exact zr_aret (r := r_9) hk hr (Or.inr ⟨_, rfl⟩) hH hz hS hw hkc hks dJ11_copyOfRange_16
  refine lv_if_ne (tgt := 10) hx hb dJ11_copyOfRange_1 (by decide) (fun hc => ?_) (fun hc => ?_)
  · have hw := hw.2 hc
    exact hJ_10 hp nx 0 0 _ _ _ hw hl hH hz hS
  · have hw := hw.1 hc
    refine lv_iload_n hx hb dJ11_copyOfRange_4 rfl (lv_at hl 2 rfl) ?_
    refine zr_aload_n (r := r0) hx hb dJ11_copyOfRange_5 rfl (lv_at hl 0 rfl) ?_
    obtain ⟨a_10, v_11, er, he, hw⟩ := zln_e hw
    refine zw_alen hk hH 2 er he rfl dJ11_copyOfRange_6 ?_
    generalize Int32.ofNat v_11.1 = x_12 at hw ⊢
    refine lv_icmp_eq (tgt := 17) hx hb dJ11_copyOfRange_7 (by decide) (fun hc => ?_) (fun hc => ?_)
    · have hw := hw.1 hc
      refine zr_aload_n (r := r0) hx hb dJ11_copyOfRange_17 rfl (lv_at hl 0 rfl) ?_
      exact hw.elim
    · have hw := hw.2 hc
      exact hJ_10 hp nx 0 0 _ _ _ hw hl hH hz hS
def wp_J27_indexOf (l : Launch) (g : zG) (d : Nat) (h0 : Nat) (r1 : Option Nat) (hp : zHp) (nx : Nat) (Post : Int32 → zHp → Nat → Prop) : Prop :=
  (∃ P_71 : Int32 → (Option Nat) → zHp → Nat → Prop, (∀ (x_1 : Int32) (r_2 : Option Nat) (hp_3 : zHp) (nx_4 : Nat), P_71 x_1 r_2 hp_3 nx_4 →
  (Post (-1 : Int32) hp_3 nx_4)) ∧
  ((r1 = none →
  (zgR hp (some h0) [36] 2 fun r_34 =>
  (∃ I_11 : Nat → Int32 → (Option Nat) → zHp → Nat → Prop, (∃ n_50, I_11 n_50 (0 : Int32) r_34 hp nx) ∧ ∀ (n_39 : Nat) (x_35 : Int32) (r_36 : Option Nat) (hp_37 : zHp) (nx_38 : Nat), I_11 n_39 x_35 r_36 hp_37 nx_38 →
  ((r_36 = none →
  P_71 x_35 r_36 hp_37 nx_38) ∧
  (¬ r_36 = none →
  (zgR hp_37 r_36 [37] 0 fun r_43 =>
  ((r_43 = none →
  (Post x_35 hp_37 nx_38)) ∧
  (¬ r_43 = none →
  (∀ x_44 : Int32, x_44 = x_35 + (1 : Int32) →
  (zgR hp_37 r_36 [37] 1 fun r_48 =>
  (∃ k_49, k_49 < n_39 ∧ I_11 k_49 x_44 r_48 hp_37 nx_38))))))))))) ∧
  (¬ r1 = none →
  (zgR hp (some h0) [36] 2 fun r_8 =>
  (∃ I_43 : Nat → Int32 → (Option Nat) → zHp → Nat → Prop, (∃ n_30, I_43 n_30 (0 : Int32) r_8 hp nx) ∧ ∀ (n_13 : Nat) (x_9 : Int32) (r_10 : Option Nat) (hp_11 : zHp) (nx_12 : Nat), I_43 n_13 x_9 r_10 hp_11 nx_12 →
  ((r_10 = none →
  P_71 x_9 r_10 hp_11 nx_12) ∧
  (¬ r_10 = none →
  (zgR hp_11 r_10 [37] 0 fun r_17 =>
  (zo hp_11 r1 [41] fun a_27 ci_28 fs_29 => zMt l g yJ15_equals cJ15_equals 2 (some .boolean) d 0 0 (.ref a_27 :: [va_rf r_17]) hp_11 nx_12 (zQi g fun x_20 hp_18 nx_19 =>
  ((x_20 = 0 →
  (∀ x_21 : Int32, x_21 = x_9 + (1 : Int32) →
  (zgR hp_18 r_10 [37] 1 fun r_25 =>
  (∃ k_26, k_26 < n_13 ∧ I_43 k_26 x_21 r_25 hp_18 nx_19)))) ∧
  (¬ x_20 = 0 →
  (Post x_9 hp_18 nx_19)))))))))))))
set_option maxHeartbeats 40000000 in
theorem met_J27_indexOf {l : Launch} {g : zG} {d : Nat} {h0 : Nat} {r1 : Option Nat} {hp : zHp} {nx : Nat} {Post : Int32 → zHp → Nat → Prop} (hw : wp_J27_indexOf l g d h0 r1 hp nx Post) : zMt l g yJ27_indexOf cJ27_indexOf 4 (some .int) (d + 1) 0 0 [.ref h0, va_rf r1] hp nx (zQi g Post) := by
  refine z_start (by decide) (by cases r1 <;> exact Nat.le_of_ble_eq_true rfl) ?_
  intro p e s m below meth c hk hr hin hH hz ls hl
  have hx := hk.1.1
  have hb := hk.1.2.1
  have hown := hk.1.2.2.2.1
  have hts := hk.1.2.2.2.2
  have hS : va_S (zAd g) s.heap s.heap [] := va_S.rf
  have hl : lv_has ls 4 [(0, va_rf (some h0)), (1, va_rf r1)] := by cases r1 <;> exact hl
  unfold wp_J27_indexOf at hw
  refine lv_iconst (v := (0 : Int32)) hx hb dJ27_indexOf_0 (by decide) ?_
  refine lv_istore_n (i := 2) (lv' := [(2, .int (0 : Int32)), (0, va_rf (some h0)), (1, va_rf r1)]) hx hb dJ27_indexOf_1 rfl hl (by decide) (by first | rfl | simp [List.filter_cons, z_cat, z_catI, z_catJ, z_catF, z_catD]) (fun ls hl => ?_)
  refine zr_aload_n (r := r1) hx hb dJ27_indexOf_2 rfl (lv_at hl 2 rfl) ?_
  obtain ⟨P_71, hP_71, hw⟩ := hw
  have hJ_71 : ∀ (x_1 : Int32) (r_2 : Option Nat) (hp_3 : zHp) (nx_4 : Nat) (H : Heap) (locs : List Loc) (ls : Array Slot), P_71 x_1 r_2 hp_3 nx_4 → lv_has ls 4 [(0, va_rf (some h0)), (1, va_rf r1), (2, .int x_1), (3, va_rf r_2)] → zHd g hp_3 H → H.size = nx_4 → va_S (zAd g) s.heap H locs → W p l e (zrm (d + 1) 0 0) s m ([.ref h0, va_rf r1] : List Value).toArray below meth c H locs 0 0 (MQ below (zQi g Post) ([.ref h0, va_rf r1] : List Value).toArray s 0 0 (zAd g)) (F0 m 71 ls []) := by
    intro x_1 r_2 hp_3 nx_4 H locs ls hw hl hH hz hS
    have hw := hP_71 x_1 r_2 hp_3 nx_4 hw
    refine lv_iconst (v := (-1 : Int32)) hx hb dJ27_indexOf_71 (by decide) ?_
    exact zr_iret hk hr hH hz hS hw (Nat.le_of_ble_eq_true rfl) (Nat.le_of_ble_eq_true rfl) dJ27_indexOf_72
  refine zr_ifnonnull (r := r1) (tgt := 38) hx hb dJ27_indexOf_3 (by decide) (fun hc => ?_) (fun hc => ?_)
  · have hw := hw.2 hc
    refine zr_aload_n (r := some h0) hx hb dJ27_indexOf_38 rfl (lv_at hl 1 rfl) ?_
    obtain ⟨a_5, ci_6, fs_7, r_8, er, he, hc, hv, hw⟩ := zgR_e hw
    refine zw_get hk hH er he hv (fk_J27_18 hc) dJ27_indexOf_39 ?_
    refine zr_astore_n (r := r_8) (i := 3) (lv' := [(3, va_rf r_8), (2, .int (0 : Int32)), (0, va_rf (some h0)), (1, va_rf r1)]) hx hb dJ27_indexOf_42 rfl hl (by decide) (by first | rfl | simp [List.filter_cons, z_cat, z_catI, z_catJ, z_catF, z_catD]) (fun ls hl => ?_)
    obtain ⟨I_43, ⟨n_30, hI⟩, hB_43⟩ := hw
    have hL_43 : ∀ (n_13 : Nat) (x_9 : Int32) (r_10 : Option Nat) (hp_11 : zHp) (nx_12 : Nat) (H : Heap) (locs : List Loc) (ls : Array Slot), I_43 n_13 x_9 r_10 hp_11 nx_12 → lv_has ls 4 [(0, va_rf (some h0)), (1, va_rf r1), (2, .int x_9), (3, va_rf r_10)] → zHd g hp_11 H → H.size = nx_12 → va_S (zAd g) s.heap H locs → W p l e (zrm (d + 1) 0 0) s m ([.ref h0, va_rf r1] : List Value).toArray below meth c H locs 0 0 (MQ below (zQi g Post) ([.ref h0, va_rf r1] : List Value).toArray s 0 0 (zAd g)) (F0 m 43 ls []) := by
      intro n_13
      induction n_13 using Nat.strongRecOn with
      | _ n_13 ih_43 =>
        intro x_9 r_10 hp_11 nx_12 H locs ls hw hl hH hz hS
        have hw := hB_43 n_13 x_9 r_10 hp_11 nx_12 hw
        refine zr_aload_n (r := r_10) hx hb dJ27_indexOf_43 rfl (lv_at hl 3 rfl) ?_
        refine zr_ifnull (r := r_10) (tgt := 71) hx hb dJ27_indexOf_44 (by decide) (fun hc => ?_) (fun hc => ?_)
        · have hw := hw.1 hc
          exact hJ_71 x_9 r_10 hp_11 nx_12 _ _ _ hw hl hH hz hS
        · have hw := hw.2 hc
          refine zr_aload_n (r := r1) hx hb dJ27_indexOf_47 rfl (lv_at hl 1 rfl) ?_
          refine zr_aload_n (r := r_10) hx hb dJ27_indexOf_48 rfl (lv_at hl 3 rfl) ?_
          obtain ⟨a_14, ci_15, fs_16, r_17, er, he, hc, hv, hw⟩ := zgR_e hw
          refine zw_get hk hH er he hv (fk_J27_39 hc) dJ27_indexOf_49 ?_
          obtain ⟨a_27, ci_28, fs_29, er, he, hc, hw⟩ := zo_e hw
          obtain rfl := List.mem_singleton.mp hc
          refine zr_calli (zw_runU (As := [va_rf r_17]) hk hH hz hS hl.1 er hw (va_cwO 1 hts (z_O q763 q765 q764 q802 q803 q149 q804) rfl rfl rfl q819 (by decide +kernel) (z_room (Nat.le_of_ble_eq_true rfl))) he rfl rfl rfl (Nat.le_of_ble_eq_true rfl) dJ27_indexOf_52 ⟨Nat.le_of_ble_eq_true rfl, Nat.le_of_ble_eq_true rfl⟩) hS (fun x_20 hp_18 nx_19 hw H locs hH hz hS => ?_)
          refine lv_if_eq (tgt := 60) hx hb dJ27_indexOf_55 (by decide) (fun hc => ?_) (fun hc => ?_)
          · have hw := hw.1 hc
            obtain ⟨x_21, ex_21⟩ : ∃ y : Int32, y = x_9 + (1 : Int32) := ⟨_, rfl⟩
            have hw := hw x_21 ex_21
            refine lv_iinc (v := x_21) (lv' := [(2, .int x_21), (0, va_rf (some h0)), (1, va_rf r1), (3, va_rf r_10)]) hx hb dJ27_indexOf_60 hl (k := 2) rfl (by rw [ex_21]; rfl) (by decide) (by first | rfl | simp [List.filter_cons, z_cat, z_catI, z_catJ, z_catF, z_catD]) (fun ls hl => ?_)
            refine zr_aload_n (r := r_10) hx hb dJ27_indexOf_63 rfl (lv_at hl 3 rfl) ?_
            obtain ⟨a_22, ci_23, fs_24, r_25, er, he, hc, hv, hw⟩ := zgR_e hw
            refine zw_get hk hH er he hv (fk_J27_36 hc) dJ27_indexOf_64 ?_
            refine zr_astore_n (r := r_25) (i := 3) (lv' := [(3, va_rf r_25), (2, .int x_21), (0, va_rf (some h0)), (1, va_rf r1)]) hx hb dJ27_indexOf_67 rfl hl (by decide) (by first | rfl | simp [List.filter_cons, z_cat, z_catI, z_catJ, z_catF, z_catD]) (fun ls hl => ?_)
            refine lv_goto (tgt := 43) hx hb dJ27_indexOf_68 (by decide) ?_
            obtain ⟨k_26, hlt, hw⟩ := hw
            exact ih_43 k_26 hlt x_21 r_25 hp_18 nx_19 _ _ _ hw (lv_sub hl [2, 3, 1, 0] rfl) hH hz hS
          · have hw := hw.2 hc
            refine lv_iload_n hx hb dJ27_indexOf_58 rfl (lv_at hl 2 rfl) ?_
            exact zr_iret hk hr hH hz hS hw (Nat.le_of_ble_eq_true rfl) (Nat.le_of_ble_eq_true rfl) dJ27_indexOf_59
    exact hL_43 n_30 (0 : Int32) r_8 hp nx _ _ _ hI (lv_sub hl [2, 3, 1, 0] rfl) hH hz hS
  · have hw := hw.1 hc
    refine zr_aload_n (r := some h0) hx hb dJ27_indexOf_6 rfl (lv_at hl 1 rfl) ?_
    obtain ⟨a_31, ci_32, fs_33, r_34, er, he, hc, hv, hw⟩ := zgR_e hw
    refine zw_get hk hH er he hv (fk_J27_18 hc) dJ27_indexOf_7 ?_
    refine zr_astore_n (r := r_34) (i := 3) (lv' := [(3, va_rf r_34), (2, .int (0 : Int32)), (0, va_rf (some h0)), (1, va_rf r1)]) hx hb dJ27_indexOf_10 rfl hl (by decide) (by first | rfl | simp [List.filter_cons, z_cat, z_catI, z_catJ, z_catF, z_catD]) (fun ls hl => ?_)
    obtain ⟨I_11, ⟨n_50, hI⟩, hB_11⟩ := hw
    have hL_11 : ∀ (n_39 : Nat) (x_35 : Int32) (r_36 : Option Nat) (hp_37 : zHp) (nx_38 : Nat) (H : Heap) (locs : List Loc) (ls : Array Slot), I_11 n_39 x_35 r_36 hp_37 nx_38 → lv_has ls 4 [(0, va_rf (some h0)), (1, va_rf r1), (2, .int x_35), (3, va_rf r_36)] → zHd g hp_37 H → H.size = nx_38 → va_S (zAd g) s.heap H locs → W p l e (zrm (d + 1) 0 0) s m ([.ref h0, va_rf r1] : List Value).toArray below meth c H locs 0 0 (MQ below (zQi g Post) ([.ref h0, va_rf r1] : List Value).toArray s 0 0 (zAd g)) (F0 m 11 ls []) := by
      intro n_39
      induction n_39 using Nat.strongRecOn with
      | _ n_39 ih_11 =>
        intro x_35 r_36 hp_37 nx_38 H locs ls hw hl hH hz hS
        have hw := hB_11 n_39 x_35 r_36 hp_37 nx_38 hw
        refine zr_aload_n (r := r_36) hx hb dJ27_indexOf_11 rfl (lv_at hl 3 rfl) ?_
        refine zr_ifnull (r := r_36) (tgt := 35) hx hb dJ27_indexOf_12 (by decide) (fun hc => ?_) (fun hc => ?_)
        · have hw := hw.1 hc
          refine lv_goto (tgt := 71) hx hb dJ27_indexOf_35 (by decide) ?_
          exact hJ_71 x_35 r_36 hp_37 nx_38 _ _ _ hw hl hH hz hS
        · have hw := hw.2 hc
          refine zr_aload_n (r := r_36) hx hb dJ27_indexOf_15 rfl (lv_at hl 3 rfl) ?_
          obtain ⟨a_40, ci_41, fs_42, r_43, er, he, hc, hv, hw⟩ := zgR_e hw
          refine zw_get hk hH er he hv (fk_J27_39 hc) dJ27_indexOf_16 ?_
          refine zr_ifnonnull (r := r_43) (tgt := 24) hx hb dJ27_indexOf_19 (by decide) (fun hc => ?_) (fun hc => ?_)
          · have hw := hw.2 hc
            obtain ⟨x_44, ex_44⟩ : ∃ y : Int32, y = x_35 + (1 : Int32) := ⟨_, rfl⟩
            have hw := hw x_44 ex_44
            refine lv_iinc (v := x_44) (lv' := [(2, .int x_44), (0, va_rf (some h0)), (1, va_rf r1), (3, va_rf r_36)]) hx hb dJ27_indexOf_24 hl (k := 2) rfl (by rw [ex_44]; rfl) (by decide) (by first | rfl | simp [List.filter_cons, z_cat, z_catI, z_catJ, z_catF, z_catD]) (fun ls hl => ?_)
            refine zr_aload_n (r := r_36) hx hb dJ27_indexOf_27 rfl (lv_at hl 3 rfl) ?_
            obtain ⟨a_45, ci_46, fs_47, r_48, er, he, hc, hv, hw⟩ := zgR_e hw
            refine zw_get hk hH er he hv (fk_J27_36 hc) dJ27_indexOf_28 ?_
            refine zr_astore_n (r := r_48) (i := 3) (lv' := [(3, va_rf r_48), (2, .int x_44), (0, va_rf (some h0)), (1, va_rf r1)]) hx hb dJ27_indexOf_31 rfl hl (by decide) (by first | rfl | simp [List.filter_cons, z_cat, z_catI, z_catJ, z_catF, z_catD]) (fun ls hl => ?_)
            refine lv_goto (tgt := 11) hx hb dJ27_indexOf_32 (by decide) ?_
            obtain ⟨k_49, hlt, hw⟩ := hw
            exact ih_11 k_49 hlt x_44 r_48 hp_37 nx_38 _ _ _ hw (lv_sub hl [2, 3, 1, 0] rfl) hH hz hS
          · have hw := hw.1 hc
            refine lv_iload_n hx hb dJ27_indexOf_22 rfl (lv_at hl 2 rfl) ?_
            exact zr_iret hk hr hH hz hS hw (Nat.le_of_ble_eq_true rfl) (Nat.le_of_ble_eq_true rfl) dJ27_indexOf_23
    exact hL_11 n_50 (0 : Int32) r_34 hp nx _ _ _ hI (lv_sub hl [2, 3, 1, 0] rfl) hH hz hS
theorem no_J27_22 : zNo "java/util/LinkedList" 22 37 := ⟨RJ29, TJ29, 3, rfl, q1656, q1657, q181⟩
theorem fp_J27_27 {ci : Nat} (h : ci ∈ [36]) : zFp "java/util/LinkedList" 27 ci 3 (.object "java/util/LinkedList$Node") := by
  simp only [List.mem_cons, List.not_mem_nil, or_false] at h
  rcases h with rfl
  · exact ⟨RJ27, TJ27, 4, rfl, by decide, q1343, rfl, by decide +kernel⟩
theorem fs_J27_33 {ci : Nat} (h : ci ∈ [36]) : zFkS "java/util/LinkedList" 33 ci 0 := by
  simp only [List.mem_cons, List.not_mem_nil, or_false] at h
  rcases h with rfl
  · exact ⟨RJ27, TJ27, 4, "java/util/LinkedList", rfl, by decide, q1348, q1346⟩
theorem ft_J27_33 {ci : Nat} (h : ci ∈ [36]) : zFpS "java/util/LinkedList" 33 ci 0 .int := by
  simp only [List.mem_cons, List.not_mem_nil, or_false] at h
  rcases h with rfl
  · exact ⟨RJ27, TJ27, 4, "java/util/LinkedList", rfl, by decide, q1348, q1346, rfl, by decide +kernel⟩
theorem fp_J27_36 {ci : Nat} (h : ci ∈ [37]) : zFp "java/util/LinkedList" 36 ci 1 (.object "java/util/LinkedList$Node") := by
  simp only [List.mem_cons, List.not_mem_nil, or_false] at h
  rcases h with rfl
  · exact ⟨RJ29, TJ29, 3, rfl, by decide, q1667, rfl, by decide +kernel⟩
theorem fp_J27_18 {ci : Nat} (h : ci ∈ [36]) : zFp "java/util/LinkedList" 18 ci 2 (.object "java/util/LinkedList$Node") := by
  simp only [List.mem_cons, List.not_mem_nil, or_false] at h
  rcases h with rfl
  · exact ⟨RJ27, TJ27, 4, rfl, by decide, q1342, rfl, by decide +kernel⟩
def wp_J27_linkLast (l : Launch) (g : zG) (d : Nat) (mc ms : Nat) (h0 : Nat) (r1 : Option Nat) (hp : zHp) (nx : Nat) (Post : zHp → Nat → Prop) : Prop :=
  (zgR hp (some h0) [36] 3 fun r_4 =>
  (znw g mc ms hp nx 0 0 37 fun hp_5 =>
  ∀ nx_6 kc_7 ks_8 : Nat, nx_6 = (nx + 1) → kc_7 = (0 + 1) → ks_8 = (0 + zNn 37) →
  (kc_7 ≤ mc ∧ ks_8 ≤ ms ∧ zMt l g yJ29_init cJ29_init 4 none d 0 0 (.ref nx :: [va_rf r_4, va_rf r1, va_rf none]) hp_5 nx_6 (zQv g fun hp_9 nx_10 =>
  (zpt g hp_9 (some h0) [36] 3 (va_rf (some nx)) fun hp_14 =>
  (∃ P_38 : (Option Nat) → (Option Nat) → zHp → Nat → Nat → Nat → Prop, (∀ (r_15 : Option Nat) (r_16 : Option Nat) (hp_17 : zHp) (nx_18 : Nat) (kc_19 : Nat) (ks_20 : Nat), P_38 r_15 r_16 hp_17 nx_18 kc_19 ks_20 →
  (zgI hp_17 (some h0) [36] 1 fun x_24 =>
  (zpt g hp_17 (some h0) [36] 1 (.int (x_24 + (1 : Int32))) fun hp_28 =>
  (zgI hp_28 (some h0) [36] 0 fun x_32 =>
  (zpt g hp_28 (some h0) [36] 0 (.int (x_32 + (1 : Int32))) fun hp_36 =>
  (kc_19 ≤ mc ∧ ks_20 ≤ ms ∧ Post hp_36 nx_18)))))) ∧
  ((r_4 = none →
  (zpt g hp_14 (some h0) [36] 2 (va_rf (some nx)) fun hp_44 =>
  P_38 r_4 (some nx) hp_44 nx_10 kc_7 ks_8)) ∧
  (¬ r_4 = none →
  (zpt g hp_14 r_4 [37] 1 (va_rf (some nx)) fun hp_40 =>
  P_38 r_4 (some nx) hp_40 nx_10 kc_7 ks_8)))))))))
set_option maxHeartbeats 40000000 in
theorem met_J27_linkLast {l : Launch} {g : zG} {d : Nat} {mc ms : Nat} {h0 : Nat} {r1 : Option Nat} {hp : zHp} {nx : Nat} {Post : zHp → Nat → Prop} (hw : wp_J27_linkLast l g d mc ms h0 r1 hp nx Post) : zMt l g yJ27_linkLast cJ27_linkLast 4 none (d + 1) mc ms [.ref h0, va_rf r1] hp nx (zQv g Post) := by
  refine z_start (by decide) (by cases r1 <;> exact Nat.le_of_ble_eq_true rfl) ?_
  intro p e s m below meth c hk hr hin hH hz ls hl
  have hx := hk.1.1
  have hb := hk.1.2.1
  have hown := hk.1.2.2.2.1
  have hts := hk.1.2.2.2.2
  have hS : va_S (zAd g) s.heap s.heap [] := va_S.rf
  have hl : lv_has ls 4 [(0, va_rf (some h0)), (1, va_rf r1)] := by cases r1 <;> exact hl
  unfold wp_J27_linkLast at hw
  refine zr_aload_n (r := some h0) hx hb dJ27_linkLast_0 rfl (lv_at hl 0 rfl) ?_
  obtain ⟨a_1, ci_2, fs_3, r_4, er, he, hc, hv, hw⟩ := zgR_e hw
  refine zw_get hk hH er he hv (fk_J27_27 hc) dJ27_linkLast_1 ?_
  refine zr_astore_n (r := r_4) (i := 2) (lv' := [(2, va_rf r_4), (0, va_rf (some h0)), (1, va_rf r1)]) hx hb dJ27_linkLast_4 rfl hl (by decide) (by first | rfl | simp [List.filter_cons, z_cat, z_catI, z_catJ, z_catF, z_catD]) (fun ls hl => ?_)
  obtain ⟨hcl, hsl, hw⟩ := hw
  refine zx_new hk hH hz hS (ci := 37) no_J27_22 hcl hsl dJ27_linkLast_5 (fun H hH hz hS hlt hnb => ?_)
  have hw := hw hlt hnb
  generalize va_up hp nx _ = hp_5 at hH hw
  obtain ⟨kc_7, ekc⟩ : ∃ k, k = (0 + 1) := ⟨_, rfl⟩
  obtain ⟨ks_8, eks⟩ : ∃ k, k = (0 + zNn 37) := ⟨_, rfl⟩
  have hw := hw _ _ _ rfl ekc eks
  refine W.widen (Nat.le_of_eq ekc.symm) (Nat.le_of_eq eks.symm) ?_
  clear ekc eks
  generalize (nx + 1) = nx_6 at hz hw
  refine lv_dup hx hb dJ27_linkLast_8 (z_cat _) ?_
  refine zr_aload_n (r := r_4) hx hb dJ27_linkLast_9 rfl (lv_at hl 0 rfl) ?_
  refine zr_aload_n (r := r1) hx hb dJ27_linkLast_10 rfl (lv_at hl 2 rfl) ?_
  refine zx_null hx hb dJ27_linkLast_11 ?_
  obtain ⟨hcl, hsl, hw⟩ := hw
  refine zr_callv (zw_runI (As := [va_rf r_4, va_rf r1, va_rf none]) (r := some nx) hk hH hz hS hl.1 rfl hw (cwI 3 hts (lw_meth q1660) rfl rfl rfl (hts _ q181) (hts _ q1658) (hts _ q1659) rfl (by decide +kernel) (z_room (Nat.le_of_ble_eq_true rfl))) rfl rfl (by simp only [List.map_cons, List.map_nil, z_cat]; exact Nat.le_of_ble_eq_true rfl) dJ27_linkLast_12 ⟨hcl, hsl⟩) hS (fun hp_9 nx_10 hw H locs hH hz hS => ?_)
  refine zr_astore_n (r := some nx) (i := 3) (lv' := [(3, va_rf (some nx)), (2, va_rf r_4), (0, va_rf (some h0)), (1, va_rf r1)]) hx hb dJ27_linkLast_15 rfl hl (by decide) (by first | rfl | simp [List.filter_cons, z_cat, z_catI, z_catJ, z_catF, z_catD]) (fun ls hl => ?_)
  refine zr_aload_n (r := some h0) hx hb dJ27_linkLast_16 rfl (lv_at hl 2 rfl) ?_
  refine zr_aload_n (r := some nx) hx hb dJ27_linkLast_17 rfl (lv_at hl 0 rfl) ?_
  obtain ⟨a_11, ci_12, fs_13, hp_14, er, he, hc, hA, hkl, eh, hw⟩ := zpt_e hw
  refine zw_put hk hH hz hS er he hA hkl eh (fp_J27_27 hc) (z_narR _ _) (z_fitR _ _) dJ27_linkLast_18 (fun H locs hH hz hS => ?_)
  refine zr_aload_n (r := r_4) hx hb dJ27_linkLast_21 rfl (lv_at hl 1 rfl) ?_
  obtain ⟨P_38, hP_38, hw⟩ := hw
  have hJ_38 : ∀ (r_15 : Option Nat) (r_16 : Option Nat) (hp_17 : zHp) (nx_18 : Nat) (kc_19 : Nat) (ks_20 : Nat) (H : Heap) (locs : List Loc) (ls : Array Slot), P_38 r_15 r_16 hp_17 nx_18 kc_19 ks_20 → lv_has ls 4 [(0, va_rf (some h0)), (1, va_rf r1), (2, va_rf r_15), (3, va_rf r_16)] → zHd g hp_17 H → H.size = nx_18 → va_S (zAd g) s.heap H locs → W p l e (zrm (d + 1) mc ms) s m ([.ref h0, va_rf r1] : List Value).toArray below meth c H locs kc_19 ks_20 (MQ below (zQv g Post) ([.ref h0, va_rf r1] : List Value).toArray s mc ms (zAd g)) (F0 m 38 ls []) := by
    intro r_15 r_16 hp_17 nx_18 kc_19 ks_20 H locs ls hw hl hH hz hS
    have hw := hP_38 r_15 r_16 hp_17 nx_18 kc_19 ks_20 hw
    refine zr_aload_n (r := some h0) hx hb dJ27_linkLast_38 rfl (lv_at hl 0 rfl) ?_
    refine lv_dup hx hb dJ27_linkLast_39 (z_cat _) ?_
    obtain ⟨a_21, ci_22, fs_23, x_24, er, he, hc, hv, hw⟩ := zgI_e hw
    refine zw_get hk hH er he hv (fk_J27_7 hc) dJ27_linkLast_40 ?_
    refine lv_iconst (v := (1 : Int32)) hx hb dJ27_linkLast_43 (by decide) ?_
    refine lv_iadd hx hb dJ27_linkLast_44 ?_
    obtain ⟨a_25, ci_26, fs_27, hp_28, er, he, hc, hA, hkl, eh, hw⟩ := zpt_e hw
    refine zw_put hk hH hz hS er he hA hkl eh (fp_J27_7 hc) rfl rfl dJ27_linkLast_45 (fun H locs hH hz hS => ?_)
    refine zr_aload_n (r := some h0) hx hb dJ27_linkLast_48 rfl (lv_at hl 0 rfl) ?_
    refine lv_dup hx hb dJ27_linkLast_49 (z_cat _) ?_
    obtain ⟨a_29, ci_30, fs_31, x_32, er, he, hc, hv, hw⟩ := zgI_e hw
    refine zw_getS hk hH er he hv (fs_J27_33 hc) dJ27_linkLast_50 ?_
    refine lv_iconst (v := (1 : Int32)) hx hb dJ27_linkLast_53 (by decide) ?_
    refine lv_iadd hx hb dJ27_linkLast_54 ?_
    obtain ⟨a_33, ci_34, fs_35, hp_36, er, he, hc, hA, hkl, eh, hw⟩ := zpt_e hw
    refine zw_putS hk hH hz hS er he hA hkl eh (ft_J27_33 hc) rfl rfl dJ27_linkLast_55 (fun H locs hH hz hS => ?_)
    obtain ⟨hkc, hks, hw⟩ := hw
    exact zr_vret hk hr hH hz hS hw hkc hks dJ27_linkLast_58
  refine zr_ifnonnull (r := r_4) (tgt := 33) hx hb dJ27_linkLast_22 (by decide) (fun hc => ?_) (fun hc => ?_)
  · have hw := hw.2 hc
    refine zr_aload_n (r := r_4) hx hb dJ27_linkLast_33 rfl (lv_at hl 1 rfl) ?_
    refine zr_aload_n (r := some nx) hx hb dJ27_linkLast_34 rfl (lv_at hl 0 rfl) ?_
    obtain ⟨a_37, ci_38, fs_39, hp_40, er, he, hc, hA, hkl, eh, hw⟩ := zpt_e hw
    refine zw_put hk hH hz hS er he hA hkl eh (fp_J27_36 hc) (z_narR _ _) (z_fitR _ _) dJ27_linkLast_35 (fun H locs hH hz hS => ?_)
    exact hJ_38 r_4 (some nx) hp_40 nx_10 kc_7 ks_8 _ _ _ hw (lv_sub hl [2, 3, 1, 0] rfl) hH hz hS
  · have hw := hw.1 hc
    refine zr_aload_n (r := some h0) hx hb dJ27_linkLast_25 rfl (lv_at hl 2 rfl) ?_
    refine zr_aload_n (r := some nx) hx hb dJ27_linkLast_26 rfl (lv_at hl 0 rfl) ?_
    obtain ⟨a_41, ci_42, fs_43, hp_44, er, he, hc, hA, hkl, eh, hw⟩ := zpt_e hw
    refine zw_put hk hH hz hS er he hA hkl eh (fp_J27_18 hc) (z_narR _ _) (z_fitR _ _) dJ27_linkLast_27 (fun H locs hH hz hS => ?_)
    refine lv_goto (tgt := 38) hx hb dJ27_linkLast_30 (by decide) ?_
    exact hJ_38 r_4 (some nx) hp_44 nx_10 kc_7 ks_8 _ _ _ hw (lv_sub hl [2, 3, 1, 0] rfl) hH hz hS
theorem fp_J5_79 {ci : Nat} (h : ci ∈ [39]) : zFp "java/lang/AbstractStringBuilder" 79 ci 3 .int := by
  simp only [List.mem_cons, List.not_mem_nil, or_false] at h
  rcases h with rfl
  · exact ⟨RJ6, TJ6, 4, rfl, by decide, q376, rfl, by decide +kernel⟩
def wp_J5_append (l : Launch) (g : zG) (d : Nat) (mc ms : Nat) (h0 : Nat) (r1 : Option Nat) (hp : zHp) (nx : Nat) (Post : Option Nat → zHp → Nat → Prop) : Prop :=
  ((r1 = none →
  (∃ c_37 s_38 : Nat, 0 + c_37 ≤ mc ∧ 0 + s_38 ≤ ms ∧ zo hp (some h0) [39] fun a_42 ci_43 fs_44 => zMt l g yJ5_appendNull cJ5_appendNull 3 (some (.object "java/lang/AbstractStringBuilder")) d c_37 s_38 (.ref a_42 :: []) hp nx (zQq g fun r_41 hp_39 nx_40 =>
  ((0 + c_37) ≤ mc ∧ (0 + s_38) ≤ ms ∧ Post r_41 hp_39 nx_40)))) ∧
  (¬ r1 = none →
  (0 ≤ mc ∧ 0 ≤ ms ∧ zo hp r1 [40] fun a_34 ci_35 fs_36 => zMt l g yJ7_length cJ7_length 1 (some .int) d 0 0 (.ref a_34 :: []) hp nx (zQi g fun x_3 hp_1 nx_2 =>
  (zgI hp_1 (some h0) [39] 3 fun x_7 =>
  (∃ c_8 s_9 : Nat, 0 + c_8 ≤ mc ∧ 0 + s_9 ≤ ms ∧ zo hp_1 (some h0) [39] fun a_31 ci_32 fs_33 => zMt l g yJ5_ensureCapacityInternal cJ5_ensureCapacityInternal 3 none d c_8 s_9 (.ref a_31 :: [.int (x_7 + x_3)]) hp_1 nx_2 (zQv g fun hp_10 nx_11 =>
  (zgI hp_10 (some h0) [39] 3 fun x_15 =>
  (∃ c_16 s_17 : Nat, (0 + c_8) + c_16 ≤ mc ∧ (0 + s_9) + s_17 ≤ ms ∧ zo hp_10 (some h0) [39] fun a_28 ci_29 fs_30 => zMt l g yJ5_putStringAt cJ5_putStringAt 3 none d c_16 s_17 (.ref a_28 :: [.int x_15, va_rf r1]) hp_10 nx_11 (zQv g fun hp_18 nx_19 =>
  (zgI hp_18 (some h0) [39] 3 fun x_23 =>
  (zpt g hp_18 (some h0) [39] 3 (.int (x_23 + x_3)) fun hp_27 =>
  (((0 + c_8) + c_16) ≤ mc ∧ ((0 + s_9) + s_17) ≤ ms ∧ Post (some h0) hp_27 nx_19)))))))))))))
set_option maxHeartbeats 40000000 in
theorem met_J5_append {l : Launch} {g : zG} {d : Nat} {mc ms : Nat} {h0 : Nat} {r1 : Option Nat} {hp : zHp} {nx : Nat} {Post : Option Nat → zHp → Nat → Prop} (hw : wp_J5_append l g d mc ms h0 r1 hp nx Post) : zMt l g yJ5_append cJ5_append 3 (some (.object "java/lang/AbstractStringBuilder")) (d + 1) mc ms [.ref h0, va_rf r1] hp nx (zQq g Post) := by
  refine z_start (by decide) (by cases r1 <;> exact Nat.le_of_ble_eq_true rfl) ?_
  intro p e s m below meth c hk hr hin hH hz ls hl
  have hx := hk.1.1
  have hb := hk.1.2.1
  have hown := hk.1.2.2.2.1
  have hts := hk.1.2.2.2.2
  have hS : va_S (zAd g) s.heap s.heap [] := va_S.rf
  have hl : lv_has ls 3 [(0, va_rf (some h0)), (1, va_rf r1)] := by cases r1 <;> exact hl
  unfold wp_J5_append at hw
  refine zr_aload_n (r := r1) hx hb dJ5_append_0 rfl (lv_at hl 1 rfl) ?_
  refine zr_ifnonnull (r := r1) (tgt := 9) hx hb dJ5_append_1 (by decide) (fun hc => ?_) (fun hc => ?_)
  · have hw := hw.2 hc
    refine zr_aload_n (r := r1) hx hb dJ5_append_9 rfl (lv_at hl 1 rfl) ?_
    obtain ⟨hcl, hsl, hw⟩ := hw
    obtain ⟨a_34, ci_35, fs_36, er, he, hc, hw⟩ := zo_e hw
    obtain rfl := List.mem_singleton.mp hc
    refine zr_calli (zw_runV (As := []) hk hH hz hS hl.1 er hw (cwV 0 hts (lw_V q464 q465 q466 q140 q467) rfl rfl rfl (by decide +kernel) (z_room (Nat.le_of_ble_eq_true rfl))) he rfl rfl rfl (Nat.le_of_ble_eq_true rfl) dJ5_append_10 ⟨hcl, hsl⟩) hS (fun x_3 hp_1 nx_2 hw H locs hH hz hS => ?_)
    refine lv_istore_n (i := 2) (lv' := [(2, .int x_3), (0, va_rf (some h0)), (1, va_rf r1)]) hx hb dJ5_append_13 rfl hl (by decide) (by first | rfl | simp [List.filter_cons, z_cat, z_catI, z_catJ, z_catF, z_catD]) (fun ls hl => ?_)
    refine zr_aload_n (r := some h0) hx hb dJ5_append_14 rfl (lv_at hl 1 rfl) ?_
    refine zr_aload_n (r := some h0) hx hb dJ5_append_15 rfl (lv_at hl 1 rfl) ?_
    obtain ⟨a_4, ci_5, fs_6, x_7, er, he, hc, hv, hw⟩ := zgI_e hw
    refine zw_get hk hH er he hv (fk_J5_79 hc) dJ5_append_16 ?_
    refine lv_iload_n hx hb dJ5_append_19 rfl (lv_at hl 0 rfl) ?_
    refine lv_iadd hx hb dJ5_append_20 ?_
    obtain ⟨c_8, s_9, hcl, hsl, hw⟩ := hw
    obtain ⟨a_31, ci_32, fs_33, er, he, hc, hw⟩ := zo_e hw
    obtain rfl := List.mem_singleton.mp hc
    refine zr_callv (zw_runV (As := [.int (x_7 + x_3)]) hk hH hz hS hl.1 er hw ⟨callB_of 1 hts (lw_meth q401) rfl rfl rfl (hts _ q138) (hts _ q398) (by decide +kernel) (z_room (Nat.le_of_ble_eq_true rfl)), hts _ q400, z_selP (hts _ q436) rfl (hts _ q400) ((hk.2.2.1.1 _ q399 rfl).use rfl) (by decide)⟩ he rfl rfl rfl (Nat.le_of_ble_eq_true rfl) dJ5_append_21 ⟨hcl, hsl⟩) hS (fun hp_10 nx_11 hw H locs hH hz hS => ?_)
    refine zr_aload_n (r := some h0) hx hb dJ5_append_24 rfl (lv_at hl 1 rfl) ?_
    refine zr_aload_n (r := some h0) hx hb dJ5_append_25 rfl (lv_at hl 1 rfl) ?_
    obtain ⟨a_12, ci_13, fs_14, x_15, er, he, hc, hv, hw⟩ := zgI_e hw
    refine zw_get hk hH er he hv (fk_J5_79 hc) dJ5_append_26 ?_
    refine zr_aload_n (r := r1) hx hb dJ5_append_29 rfl (lv_at hl 2 rfl) ?_
    obtain ⟨c_16, s_17, hcl, hsl, hw⟩ := hw
    obtain ⟨a_28, ci_29, fs_30, er, he, hc, hw⟩ := zo_e hw
    obtain rfl := List.mem_singleton.mp hc
    refine zr_callv (zw_runV (As := [.int x_15, va_rf r1]) hk hH hz hS hl.1 er hw ⟨callB_of 2 hts (lw_meth q476) rfl rfl rfl (hts _ q138) (hts _ q473) (by decide +kernel) (z_room (Nat.le_of_ble_eq_true rfl)), hts _ q475, z_selP (hts _ q436) rfl (hts _ q475) ((hk.2.2.1.1 _ q474 rfl).use rfl) (by decide)⟩ he rfl rfl rfl (Nat.le_of_ble_eq_true rfl) dJ5_append_30 ⟨hcl, hsl⟩) hS (fun hp_18 nx_19 hw H locs hH hz hS => ?_)
    refine zr_aload_n (r := some h0) hx hb dJ5_append_33 rfl (lv_at hl 1 rfl) ?_
    refine lv_dup hx hb dJ5_append_34 (z_cat _) ?_
    obtain ⟨a_20, ci_21, fs_22, x_23, er, he, hc, hv, hw⟩ := zgI_e hw
    refine zw_get hk hH er he hv (fk_J5_79 hc) dJ5_append_35 ?_
    refine lv_iload_n hx hb dJ5_append_38 rfl (lv_at hl 0 rfl) ?_
    refine lv_iadd hx hb dJ5_append_39 ?_
    obtain ⟨a_24, ci_25, fs_26, hp_27, er, he, hc, hA, hkl, eh, hw⟩ := zpt_e hw
    refine zw_put hk hH hz hS er he hA hkl eh (fp_J5_79 hc) rfl rfl dJ5_append_40 (fun H locs hH hz hS => ?_)
    refine zr_aload_n (r := some h0) hx hb dJ5_append_43 rfl (lv_at hl 1 rfl) ?_
    obtain ⟨hkc, hks, hw⟩ := hw
    exact zr_aret (r := some h0) hk hr (Or.inl ⟨_, rfl⟩) hH hz hS hw hkc hks dJ5_append_44
  · have hw := hw.1 hc
    refine zr_aload_n (r := some h0) hx hb dJ5_append_4 rfl (lv_at hl 0 rfl) ?_
    obtain ⟨c_37, s_38, hcl, hsl, hw⟩ := hw
    obtain ⟨a_42, ci_43, fs_44, er, he, hc, hw⟩ := zo_e hw
    obtain rfl := List.mem_singleton.mp hc
    refine zr_callq (zw_runV (As := []) hk hH hz hS hl.1 er hw ⟨callB_of 0 hts (lw_meth q397) rfl rfl rfl (hts _ q138) (hts _ q394) (by decide +kernel) (z_room (Nat.le_of_ble_eq_true rfl)), hts _ q396, z_selP (hts _ q436) rfl (hts _ q396) ((hk.2.2.1.1 _ q395 rfl).use rfl) (by decide)⟩ he rfl rfl rfl (Nat.le_of_ble_eq_true rfl) dJ5_append_5 ⟨hcl, hsl⟩) hS (fun r_41 hp_39 nx_40 hw H locs hH hz hS => ?_)
    obtain ⟨hkc, hks, hw⟩ := hw
    exact zr_aret (r := r_41) hk hr (Or.inl ⟨_, rfl⟩) hH hz hS hw hkc hks dJ5_append_8
def wp_J5_appendNull (l : Launch) (g : zG) (d : Nat) (mc ms : Nat) (h0 : Nat) (hp : zHp) (nx : Nat) (Post : Option Nat → zHp → Nat → Prop) : Prop :=
  (zgI hp (some h0) [39] 3 fun x_4 =>
  (∃ c_5 s_6 : Nat, 0 + c_5 ≤ mc ∧ 0 + s_6 ≤ ms ∧ zo hp (some h0) [39] fun a_56 ci_57 fs_58 => zMt l g yJ5_ensureCapacityInternal cJ5_ensureCapacityInternal 3 none d c_5 s_6 (.ref a_56 :: [.int (x_4 + (4 : Int32))]) hp nx (zQv g fun hp_7 nx_8 =>
  (zgI hp_7 (some h0) [39] 3 fun x_12 =>
  (zgR hp_7 (some h0) [39] 0 fun r_16 =>
  ((0 + c_5) ≤ mc ∧ (0 + s_6) ≤ ms ∧ zo hp_7 (some h0) [39] fun a_53 ci_54 fs_55 => zMt l g yJ5_isLatin1 cJ5_isLatin1 1 (some .boolean) d 0 0 (.ref a_53 :: []) hp_7 nx_8 (zQi g fun x_19 hp_17 nx_18 =>
  (∃ P_76 : Int32 → (Option Nat) → zHp → Nat → Nat → Nat → Prop, (∀ (x_20 : Int32) (r_21 : Option Nat) (hp_22 : zHp) (nx_23 : Nat) (kc_24 : Nat) (ks_25 : Nat), P_76 x_20 r_21 hp_22 nx_23 kc_24 ks_25 →
  (zpt g hp_22 (some h0) [39] 3 (.int x_20) fun hp_29 =>
  (kc_24 ≤ mc ∧ ks_25 ≤ ms ∧ Post (some h0) hp_29 nx_23))) ∧
  ((x_19 = 0 →
  ((0 + c_5) ≤ mc ∧ (0 + s_6) ≤ ms ∧ zMt l g yJ8_putCharsAt cJ8_putCharsAt 7 (some .int) d 0 0 [va_rf r_16, .int x_12, .int (110 : Int32), .int (117 : Int32), .int (108 : Int32), .int (108 : Int32)] hp_17 nx_18 (zQi g fun x_32 hp_30 nx_31 =>
  P_76 x_32 r_16 hp_30 nx_31 (0 + c_5) (0 + s_6)))) ∧
  (¬ x_19 = 0 →
  (∀ x_33 : Int32, x_33 = x_12 + (1 : Int32) →
  (zaI (g.2.1 2) hp_17 r_16 fun a_34 n_35 f_36 => vp_in x_12 n_35 ∧ zB g ≤ a_34 ∧ ∀ hp_37 : zHp, hp_37 = va_up hp_17 a_34 (some (.inl (g.2.1 2, n_35, .inl (va_up f_36 x_12.toNatClampNeg (vp_nar .byte (110 : Int32)))))) →
  (∀ x_38 : Int32, x_38 = x_33 + (1 : Int32) →
  (zaI (g.2.1 2) hp_37 r_16 fun a_39 n_40 f_41 => vp_in x_33 n_40 ∧ zB g ≤ a_39 ∧ ∀ hp_42 : zHp, hp_42 = va_up hp_37 a_39 (some (.inl (g.2.1 2, n_40, .inl (va_up f_41 x_33.toNatClampNeg (vp_nar .byte (117 : Int32)))))) →
  (∀ x_43 : Int32, x_43 = x_38 + (1 : Int32) →
  (zaI (g.2.1 2) hp_42 r_16 fun a_44 n_45 f_46 => vp_in x_38 n_45 ∧ zB g ≤ a_44 ∧ ∀ hp_47 : zHp, hp_47 = va_up hp_42 a_44 (some (.inl (g.2.1 2, n_45, .inl (va_up f_46 x_38.toNatClampNeg (vp_nar .byte (108 : Int32)))))) →
  (∀ x_48 : Int32, x_48 = x_43 + (1 : Int32) →
  (zaI (g.2.1 2) hp_47 r_16 fun a_49 n_50 f_51 => vp_in x_43 n_50 ∧ zB g ≤ a_49 ∧ ∀ hp_52 : zHp, hp_52 = va_up hp_47 a_49 (some (.inl (g.2.1 2, n_50, .inl (va_up f_51 x_43.toNatClampNeg (vp_nar .byte (108 : Int32)))))) →
  P_76 x_48 r_16 hp_52 nx_18 (0 + c_5) (0 + s_6)))))))))))))))))))
set_option maxHeartbeats 40000000 in
theorem met_J5_appendNull {l : Launch} {g : zG} {d : Nat} {mc ms : Nat} {h0 : Nat} {hp : zHp} {nx : Nat} {Post : Option Nat → zHp → Nat → Prop} (hw : wp_J5_appendNull l g d mc ms h0 hp nx Post) : zMt l g yJ5_appendNull cJ5_appendNull 3 (some (.object "java/lang/AbstractStringBuilder")) (d + 1) mc ms [.ref h0] hp nx (zQq g Post) := by
  refine z_start (by decide) (Nat.le_of_ble_eq_true rfl) ?_
  intro p e s m below meth c hk hr hin hH hz ls hl
  have hx := hk.1.1
  have hb := hk.1.2.1
  have hown := hk.1.2.2.2.1
  have hts := hk.1.2.2.2.2
  have hS : va_S (zAd g) s.heap s.heap [] := va_S.rf
  have hl : lv_has ls 3 [(0, va_rf (some h0))] := hl
  unfold wp_J5_appendNull at hw
  refine zr_aload_n (r := some h0) hx hb dJ5_appendNull_0 rfl (lv_at hl 0 rfl) ?_
  refine zr_aload_n (r := some h0) hx hb dJ5_appendNull_1 rfl (lv_at hl 0 rfl) ?_
  obtain ⟨a_1, ci_2, fs_3, x_4, er, he, hc, hv, hw⟩ := zgI_e hw
  refine zw_get hk hH er he hv (fk_J5_79 hc) dJ5_appendNull_2 ?_
  refine lv_iconst (v := (4 : Int32)) hx hb dJ5_appendNull_5 (by decide) ?_
  refine lv_iadd hx hb dJ5_appendNull_6 ?_
  obtain ⟨c_5, s_6, hcl, hsl, hw⟩ := hw
  obtain ⟨a_56, ci_57, fs_58, er, he, hc, hw⟩ := zo_e hw
  obtain rfl := List.mem_singleton.mp hc
  refine zr_callv (zw_runV (As := [.int (x_4 + (4 : Int32))]) hk hH hz hS hl.1 er hw ⟨callB_of 1 hts (lw_meth q401) rfl rfl rfl (hts _ q138) (hts _ q398) (by decide +kernel) (z_room (Nat.le_of_ble_eq_true rfl)), hts _ q400, z_selP (hts _ q436) rfl (hts _ q400) ((hk.2.2.1.1 _ q399 rfl).use rfl) (by decide)⟩ he rfl rfl rfl (Nat.le_of_ble_eq_true rfl) dJ5_appendNull_7 ⟨hcl, hsl⟩) hS (fun hp_7 nx_8 hw H locs hH hz hS => ?_)
  refine zr_aload_n (r := some h0) hx hb dJ5_appendNull_10 rfl (lv_at hl 0 rfl) ?_
  obtain ⟨a_9, ci_10, fs_11, x_12, er, he, hc, hv, hw⟩ := zgI_e hw
  refine zw_get hk hH er he hv (fk_J5_79 hc) dJ5_appendNull_11 ?_
  refine lv_istore_n (i := 1) (lv' := [(1, .int x_12), (0, va_rf (some h0))]) hx hb dJ5_appendNull_14 rfl hl (by decide) (by first | rfl | simp [List.filter_cons, z_cat, z_catI, z_catJ, z_catF, z_catD]) (fun ls hl => ?_)
  refine zr_aload_n (r := some h0) hx hb dJ5_appendNull_15 rfl (lv_at hl 1 rfl) ?_
  obtain ⟨a_13, ci_14, fs_15, r_16, er, he, hc, hv, hw⟩ := zgR_e hw
  refine zw_get hk hH er he hv (fk_J5_15 hc) dJ5_appendNull_16 ?_
  refine zr_astore_n (r := r_16) (i := 2) (lv' := [(2, va_rf r_16), (1, .int x_12), (0, va_rf (some h0))]) hx hb dJ5_appendNull_19 rfl hl (by decide) (by first | rfl | simp [List.filter_cons, z_cat, z_catI, z_catJ, z_catF, z_catD]) (fun ls hl => ?_)
  refine zr_aload_n (r := some h0) hx hb dJ5_appendNull_20 rfl (lv_at hl 2 rfl) ?_
  obtain ⟨hcl, hsl, hw⟩ := hw
  obtain ⟨a_53, ci_54, fs_55, er, he, hc, hw⟩ := zo_e hw
  obtain rfl := List.mem_singleton.mp hc
  refine zr_calli (zw_runU (As := []) hk hH hz hS hl.1 er hw (va_cwU 0 hts (z_U q433 q435 q436 q434 q138 q437) rfl rfl rfl rfl (by decide +kernel) (z_room (Nat.le_of_ble_eq_true rfl))) he rfl rfl rfl (Nat.le_of_ble_eq_true rfl) dJ5_appendNull_21 ⟨hcl, hsl⟩) hS (fun x_19 hp_17 nx_18 hw H locs hH hz hS => ?_)
  obtain ⟨P_76, hP_76, hw⟩ := hw
  have hJ_76 : ∀ (x_20 : Int32) (r_21 : Option Nat) (hp_22 : zHp) (nx_23 : Nat) (kc_24 : Nat) (ks_25 : Nat) (H : Heap) (locs : List Loc) (ls : Array Slot), P_76 x_20 r_21 hp_22 nx_23 kc_24 ks_25 → lv_has ls 3 [(0, va_rf (some h0)), (1, .int x_20), (2, va_rf r_21)] → zHd g hp_22 H → H.size = nx_23 → va_S (zAd g) s.heap H locs → W p l e (zrm (d + 1) mc ms) s m ([.ref h0] : List Value).toArray below meth c H locs kc_24 ks_25 (MQ below (zQq g Post) ([.ref h0] : List Value).toArray s mc ms (zAd g)) (F0 m 76 ls []) := by
    intro x_20 r_21 hp_22 nx_23 kc_24 ks_25 H locs ls hw hl hH hz hS
    have hw := hP_76 x_20 r_21 hp_22 nx_23 kc_24 ks_25 hw
    refine zr_aload_n (r := some h0) hx hb dJ5_appendNull_76 rfl (lv_at hl 0 rfl) ?_
    refine lv_iload_n hx hb dJ5_appendNull_77 rfl (lv_at hl 1 rfl) ?_
    obtain ⟨a_26, ci_27, fs_28, hp_29, er, he, hc, hA, hkl, eh, hw⟩ := zpt_e hw
    refine zw_put hk hH hz hS er he hA hkl eh (fp_J5_79 hc) rfl rfl dJ5_appendNull_78 (fun H locs hH hz hS => ?_)
    refine zr_aload_n (r := some h0) hx hb dJ5_appendNull_81 rfl (lv_at hl 0 rfl) ?_
    obtain ⟨hkc, hks, hw⟩ := hw
    exact zr_aret (r := some h0) hk hr (Or.inl ⟨_, rfl⟩) hH hz hS hw hkc hks dJ5_appendNull_82
  refine lv_if_eq (tgt := 62) hx hb dJ5_appendNull_24 (by decide) (fun hc => ?_) (fun hc => ?_)
  · have hw := hw.1 hc
    refine zr_aload_n (r := r_16) hx hb dJ5_appendNull_62 rfl (lv_at hl 0 rfl) ?_
    refine lv_iload_n hx hb dJ5_appendNull_63 rfl (lv_at hl 1 rfl) ?_
    refine lv_bipush (v := (110 : Int32)) hx hb dJ5_appendNull_64 (by decide) ?_
    refine lv_bipush (v := (117 : Int32)) hx hb dJ5_appendNull_66 (by decide) ?_
    refine lv_bipush (v := (108 : Int32)) hx hb dJ5_appendNull_68 (by decide) ?_
    refine lv_bipush (v := (108 : Int32)) hx hb dJ5_appendNull_70 (by decide) ?_
    obtain ⟨hcl, hsl, hw⟩ := hw
    refine zr_calli (zr_runS (As := [va_rf r_16, .int x_12, .int (110 : Int32), .int (117 : Int32), .int (108 : Int32), .int (108 : Int32)]) hk hH hz hS hl.1 hw (va_cwS 6 hts (lw_S q438 q439 q141 q440) rfl rfl rfl (by decide +kernel) (z_room (Nat.le_of_ble_eq_true rfl))) rfl rfl (Nat.le_of_ble_eq_true rfl) dJ5_appendNull_72 ⟨hcl, hsl⟩) hS (fun x_32 hp_30 nx_31 hw H locs hH hz hS => ?_)
    refine lv_istore_n (i := 1) (lv' := [(1, .int x_32), (2, va_rf r_16), (0, va_rf (some h0))]) hx hb dJ5_appendNull_75 rfl hl (by decide) (by first | rfl | simp [List.filter_cons, z_cat, z_catI, z_catJ, z_catF, z_catD]) (fun ls hl => ?_)
    exact hJ_76 x_32 r_16 hp_30 nx_31 (0 + c_5) (0 + s_6) _ _ _ hw (lv_sub hl [2, 0, 1] rfl) hH hz hS
  · have hw := hw.2 hc
    refine zr_aload_n (r := r_16) hx hb dJ5_appendNull_27 rfl (lv_at hl 0 rfl) ?_
    refine lv_iload_n hx hb dJ5_appendNull_28 rfl (lv_at hl 1 rfl) ?_
    obtain ⟨x_33, ex_33⟩ : ∃ y : Int32, y = x_12 + (1 : Int32) := ⟨_, rfl⟩
    have hw := hw x_33 ex_33
    refine lv_iinc (v := x_33) (lv' := [(1, .int x_33), (2, va_rf r_16), (0, va_rf (some h0))]) hx hb dJ5_appendNull_29 hl (k := 1) rfl (by rw [ex_33]; rfl) (by decide) (by first | rfl | simp [List.filter_cons, z_cat, z_catI, z_catJ, z_catF, z_catD]) (fun ls hl => ?_)
    refine lv_bipush (v := (110 : Int32)) hx hb dJ5_appendNull_32 (by decide) ?_
    obtain ⟨a_34, n_35, f_36, er, he, hi, hA, hw⟩ := zaI_e hw
    obtain ⟨hp_37, eh⟩ : ∃ y : zHp, y = va_up hp_17 a_34 (some (.inl (g.2.1 2, n_35, .inl (va_up f_36 x_12.toNatClampNeg (vp_nar .byte (110 : Int32)))))) := ⟨_, rfl⟩
    have hw := hw hp_37 eh
    refine zw_bast hk hH hz hS er he hi hA eh dJ5_appendNull_34 (fun H locs hH hz hS => ?_)
    refine zr_aload_n (r := r_16) hx hb dJ5_appendNull_35 rfl (lv_at hl 1 rfl) ?_
    refine lv_iload_n hx hb dJ5_appendNull_36 rfl (lv_at hl 0 rfl) ?_
    obtain ⟨x_38, ex_38⟩ : ∃ y : Int32, y = x_33 + (1 : Int32) := ⟨_, rfl⟩
    have hw := hw x_38 ex_38
    refine lv_iinc (v := x_38) (lv' := [(1, .int x_38), (2, va_rf r_16), (0, va_rf (some h0))]) hx hb dJ5_appendNull_37 hl (k := 0) rfl (by rw [ex_38]; rfl) (by decide) (by first | rfl | simp [List.filter_cons, z_cat, z_catI, z_catJ, z_catF, z_catD]) (fun ls hl => ?_)
    refine lv_bipush (v := (117 : Int32)) hx hb dJ5_appendNull_40 (by decide) ?_
    obtain ⟨a_39, n_40, f_41, er, he, hi, hA, hw⟩ := zaI_e hw
    obtain ⟨hp_42, eh⟩ : ∃ y : zHp, y = va_up hp_37 a_39 (some (.inl (g.2.1 2, n_40, .inl (va_up f_41 x_33.toNatClampNeg (vp_nar .byte (117 : Int32)))))) := ⟨_, rfl⟩
    have hw := hw hp_42 eh
    refine zw_bast hk hH hz hS er he hi hA eh dJ5_appendNull_42 (fun H locs hH hz hS => ?_)
    refine zr_aload_n (r := r_16) hx hb dJ5_appendNull_43 rfl (lv_at hl 1 rfl) ?_
    refine lv_iload_n hx hb dJ5_appendNull_44 rfl (lv_at hl 0 rfl) ?_
    obtain ⟨x_43, ex_43⟩ : ∃ y : Int32, y = x_38 + (1 : Int32) := ⟨_, rfl⟩
    have hw := hw x_43 ex_43
    refine lv_iinc (v := x_43) (lv' := [(1, .int x_43), (2, va_rf r_16), (0, va_rf (some h0))]) hx hb dJ5_appendNull_45 hl (k := 0) rfl (by rw [ex_43]; rfl) (by decide) (by first | rfl | simp [List.filter_cons, z_cat, z_catI, z_catJ, z_catF, z_catD]) (fun ls hl => ?_)
    refine lv_bipush (v := (108 : Int32)) hx hb dJ5_appendNull_48 (by decide) ?_
    obtain ⟨a_44, n_45, f_46, er, he, hi, hA, hw⟩ := zaI_e hw
    obtain ⟨hp_47, eh⟩ : ∃ y : zHp, y = va_up hp_42 a_44 (some (.inl (g.2.1 2, n_45, .inl (va_up f_46 x_38.toNatClampNeg (vp_nar .byte (108 : Int32)))))) := ⟨_, rfl⟩
    have hw := hw hp_47 eh
    refine zw_bast hk hH hz hS er he hi hA eh dJ5_appendNull_50 (fun H locs hH hz hS => ?_)
    refine zr_aload_n (r := r_16) hx hb dJ5_appendNull_51 rfl (lv_at hl 1 rfl) ?_
    refine lv_iload_n hx hb dJ5_appendNull_52 rfl (lv_at hl 0 rfl) ?_
    obtain ⟨x_48, ex_48⟩ : ∃ y : Int32, y = x_43 + (1 : Int32) := ⟨_, rfl⟩
    have hw := hw x_48 ex_48
    refine lv_iinc (v := x_48) (lv' := [(1, .int x_48), (2, va_rf r_16), (0, va_rf (some h0))]) hx hb dJ5_appendNull_53 hl (k := 0) rfl (by rw [ex_48]; rfl) (by decide) (by first | rfl | simp [List.filter_cons, z_cat, z_catI, z_catJ, z_catF, z_catD]) (fun ls hl => ?_)
    refine lv_bipush (v := (108 : Int32)) hx hb dJ5_appendNull_56 (by decide) ?_
    obtain ⟨a_49, n_50, f_51, er, he, hi, hA, hw⟩ := zaI_e hw
    obtain ⟨hp_52, eh⟩ : ∃ y : zHp, y = va_up hp_47 a_49 (some (.inl (g.2.1 2, n_50, .inl (va_up f_51 x_43.toNatClampNeg (vp_nar .byte (108 : Int32)))))) := ⟨_, rfl⟩
    have hw := hw hp_52 eh
    refine zw_bast hk hH hz hS er he hi hA eh dJ5_appendNull_58 (fun H locs hH hz hS => ?_)
    refine lv_goto (tgt := 76) hx hb dJ5_appendNull_59 (by decide) ?_
    exact hJ_76 x_48 r_16 hp_52 nx_18 (0 + c_5) (0 + s_6) _ _ _ hw (lv_sub hl [2, 0, 1] rfl) hH hz hS
def wp_J5_ensureCapacityInternal (l : Launch) (g : zG) (d : Nat) (mc ms : Nat) (h0 : Nat) (x1 : Int32) (hp : zHp) (nx : Nat) (Post : zHp → Nat → Prop) : Prop :=
  (zgR hp (some h0) [39] 0 fun r_4 =>
  (zln (g.2.1 2) hp r_4 fun x_7 =>
  (zgI hp (some h0) [39] 1 fun x_11 =>
  (∀ x_12 : Int32, x_12 = x_7 >>> (x_11 &&& 31) →
  (∃ P_38 : Int32 → zHp → Nat → Nat → Nat → Prop, (∀ (x_13 : Int32) (hp_14 : zHp) (nx_15 : Nat) (kc_16 : Nat) (ks_17 : Nat), P_38 x_13 hp_14 nx_15 kc_16 ks_17 →
  (kc_16 ≤ mc ∧ ks_17 ≤ ms ∧ Post hp_14 nx_15)) ∧
  (((x1 - x_12) ≤ 0 →
  P_38 x_12 hp nx 0 0) ∧
  (¬ (x1 - x_12) ≤ 0 →
  (zgR hp (some h0) [39] 0 fun r_21 =>
  (0 ≤ mc ∧ 0 ≤ ms ∧ zo hp (some h0) [39] fun a_38 ci_39 fs_40 => zMt l g yJ5_newCapacity cJ5_newCapacity 6 (some .int) d 0 0 (.ref a_38 :: [.int x1]) hp nx (zQi g fun x_24 hp_22 nx_23 =>
  (zgI hp_22 (some h0) [39] 1 fun x_28 =>
  (∃ c_29 s_30 : Nat, 0 + c_29 ≤ mc ∧ 0 + s_30 ≤ ms ∧ zMt l g yJ11_copyOf cJ11_copyOf 3 (some (.array .byte)) d c_29 s_30 [va_rf r_21, .int (x_24 <<< (x_28 &&& 31))] hp_22 nx_23 (zQq g fun r_33 hp_31 nx_32 =>
  (zpt g hp_31 (some h0) [39] 0 (va_rf r_33) fun hp_37 =>
  P_38 x_12 hp_37 nx_32 (0 + c_29) (0 + s_30)))))))))))))))
set_option maxHeartbeats 40000000 in
theorem met_J5_ensureCapacityInternal {l : Launch} {g : zG} {d : Nat} {mc ms : Nat} {h0 : Nat} {x1 : Int32} {hp : zHp} {nx : Nat} {Post : zHp → Nat → Prop} (hw : wp_J5_ensureCapacityInternal l g d mc ms h0 x1 hp nx Post) : zMt l g yJ5_ensureCapacityInternal cJ5_ensureCapacityInternal 3 none (d + 1) mc ms [.ref h0, .int x1] hp nx (zQv g Post) := by
  refine z_start (by decide) (Nat.le_of_ble_eq_true rfl) ?_
  intro p e s m below meth c hk hr hin hH hz ls hl
  have hx := hk.1.1
  have hb := hk.1.2.1
  have hown := hk.1.2.2.2.1
  have hts := hk.1.2.2.2.2
  have hS : va_S (zAd g) s.heap s.heap [] := va_S.rf
  have hl : lv_has ls 3 [(0, va_rf (some h0)), (1, .int x1)] := hl
  unfold wp_J5_ensureCapacityInternal at hw
  refine zr_aload_n (r := some h0) hx hb dJ5_ensureCapacityInternal_0 rfl (lv_at hl 0 rfl) ?_
  obtain ⟨a_1, ci_2, fs_3, r_4, er, he, hc, hv, hw⟩ := zgR_e hw
  refine zw_get hk hH er he hv (fk_J5_15 hc) dJ5_ensureCapacityInternal_1 ?_
  obtain ⟨a_5, v_6, er, he, hw⟩ := zln_e hw
  refine zw_alen hk hH 2 er he rfl dJ5_ensureCapacityInternal_4 ?_
  generalize Int32.ofNat v_6.1 = x_7 at hw ⊢
  refine zr_aload_n (r := some h0) hx hb dJ5_ensureCapacityInternal_5 rfl (lv_at hl 0 rfl) ?_
  obtain ⟨a_8, ci_9, fs_10, x_11, er, he, hc, hv, hw⟩ := zgI_e hw
  refine zw_get hk hH er he hv (fk_J5_22 hc) dJ5_ensureCapacityInternal_6 ?_
  refine lv_ishr hx hb dJ5_ensureCapacityInternal_9 ?_
  refine lv_topi (fun x_12 ex_12 => ?_)
  have hw := hw x_12 ex_12
  refine lv_istore_n (i := 2) (lv' := [(2, .int x_12), (0, va_rf (some h0)), (1, .int x1)]) hx hb dJ5_ensureCapacityInternal_10 rfl hl (by decide) (by first | rfl | simp [List.filter_cons, z_cat, z_catI, z_catJ, z_catF, z_catD]) (fun ls hl => ?_)
  refine lv_iload_n hx hb dJ5_ensureCapacityInternal_11 rfl (lv_at hl 2 rfl) ?_
  refine lv_iload_n hx hb dJ5_ensureCapacityInternal_12 rfl (lv_at hl 0 rfl) ?_
  refine lv_isub hx hb dJ5_ensureCapacityInternal_13 ?_
  obtain ⟨P_38, hP_38, hw⟩ := hw
  have hJ_38 : ∀ (x_13 : Int32) (hp_14 : zHp) (nx_15 : Nat) (kc_16 : Nat) (ks_17 : Nat) (H : Heap) (locs : List Loc) (ls : Array Slot), P_38 x_13 hp_14 nx_15 kc_16 ks_17 → lv_has ls 3 [(0, va_rf (some h0)), (1, .int x1), (2, .int x_13)] → zHd g hp_14 H → H.size = nx_15 → va_S (zAd g) s.heap H locs → W p l e (zrm (d + 1) mc ms) s m ([.ref h0, .int x1] : List Value).toArray below meth c H locs kc_16 ks_17 (MQ below (zQv g Post) ([.ref h0, .int x1] : List Value).toArray s mc ms (zAd g)) (F0 m 38 ls []) := by
    intro x_13 hp_14 nx_15 kc_16 ks_17 H locs ls hw hl hH hz hS
    have hw := hP_38 x_13 hp_14 nx_15 kc_16 ks_17 hw
    obtain ⟨hkc, hks, hw⟩ := hw
    exact zr_vret hk hr hH hz hS hw hkc hks dJ5_ensureCapacityInternal_38
  refine lv_if_le (tgt := 38) hx hb dJ5_ensureCapacityInternal_14 (by decide) (fun hc => ?_) (fun hc => ?_)
  · have hw := hw.1 hc
    exact hJ_38 x_12 hp nx 0 0 _ _ _ hw (lv_sub hl [1, 2, 0] rfl) hH hz hS
  · have hw := hw.2 hc
    refine zr_aload_n (r := some h0) hx hb dJ5_ensureCapacityInternal_17 rfl (lv_at hl 1 rfl) ?_
    refine zr_aload_n (r := some h0) hx hb dJ5_ensureCapacityInternal_18 rfl (lv_at hl 1 rfl) ?_
    obtain ⟨a_18, ci_19, fs_20, r_21, er, he, hc, hv, hw⟩ := zgR_e hw
    refine zw_get hk hH er he hv (fk_J5_15 hc) dJ5_ensureCapacityInternal_19 ?_
    refine zr_aload_n (r := some h0) hx hb dJ5_ensureCapacityInternal_22 rfl (lv_at hl 1 rfl) ?_
    refine lv_iload_n hx hb dJ5_ensureCapacityInternal_23 rfl (lv_at hl 2 rfl) ?_
    obtain ⟨hcl, hsl, hw⟩ := hw
    obtain ⟨a_38, ci_39, fs_40, er, he, hc, hw⟩ := zo_e hw
    obtain rfl := List.mem_singleton.mp hc
    refine zr_calli (zw_runV (As := [.int x1]) hk hH hz hS hl.1 er hw ⟨callB_of 1 hts (lw_meth q405) rfl rfl rfl (hts _ q138) (hts _ q402) (by decide +kernel) (z_room (Nat.le_of_ble_eq_true rfl)), hts _ q404, z_selP (hts _ q436) rfl (hts _ q404) ((hk.2.2.1.1 _ q403 rfl).use rfl) (by decide)⟩ he rfl rfl rfl (by simp only [List.map_cons, List.map_nil, z_cat]; exact Nat.le_of_ble_eq_true rfl) dJ5_ensureCapacityInternal_24 ⟨hcl, hsl⟩) hS (fun x_24 hp_22 nx_23 hw H locs hH hz hS => ?_)
    refine zr_aload_n (r := some h0) hx hb dJ5_ensureCapacityInternal_27 rfl (lv_at hl 1 rfl) ?_
    obtain ⟨a_25, ci_26, fs_27, x_28, er, he, hc, hv, hw⟩ := zgI_e hw
    refine zw_get hk hH er he hv (fk_J5_22 hc) dJ5_ensureCapacityInternal_28 ?_
    refine lv_ishl hx hb dJ5_ensureCapacityInternal_31 ?_
    obtain ⟨c_29, s_30, hcl, hsl, hw⟩ := hw
    refine zr_callq (zr_runS (As := [va_rf r_21, .int (x_24 <<< (x_28 &&& 31))]) hk hH hz hS hl.1 hw (va_cwS 2 hts (lw_S q417 q418 q144 q419) rfl rfl rfl (by decide +kernel) (z_room (Nat.le_of_ble_eq_true rfl))) rfl rfl (by simp only [List.map_cons, List.map_nil, z_cat]; exact Nat.le_of_ble_eq_true rfl) dJ5_ensureCapacityInternal_32 ⟨hcl, hsl⟩) hS (fun r_33 hp_31 nx_32 hw H locs hH hz hS => ?_)
    obtain ⟨a_34, ci_35, fs_36, hp_37, er, he, hc, hA, hkl, eh, hw⟩ := zpt_e hw
    refine zw_put hk hH hz hS er he hA hkl eh (fp_J5_15 hc) (z_narA _ _) (z_fitA _ _) dJ5_ensureCapacityInternal_35 (fun H locs hH hz hS => ?_)
    exact hJ_38 x_12 hp_37 nx_32 (0 + c_29) (0 + s_30) _ _ _ hw (lv_sub hl [1, 2, 0] rfl) hH hz hS
def wp_J5_putStringAt (l : Launch) (g : zG) (d : Nat) (mc ms : Nat) (h0 : Nat) (x1 : Int32) (r2 : Option Nat) (hp : zHp) (nx : Nat) (Post : zHp → Nat → Prop) : Prop :=
  (∃ c_1 s_2 : Nat, 0 + c_1 ≤ mc ∧ 0 + s_2 ≤ ms ∧ zo hp (some h0) [39] fun a_18 ci_19 fs_20 => zMt l g yJ5_inflateIfNeededFor cJ5_inflateIfNeededFor 2 none d c_1 s_2 (.ref a_18 :: [va_rf r2]) hp nx (zQv g fun hp_3 nx_4 =>
  (zgR hp_3 (some h0) [39] 0 fun r_8 =>
  (zgI hp_3 (some h0) [39] 1 fun x_12 =>
  ((0 + c_1) ≤ mc ∧ (0 + s_2) ≤ ms ∧ zo hp_3 r2 [40] fun a_15 ci_16 fs_17 => zMt l g yJ7_getBytes cJ7_getBytes 4 none d 0 0 (.ref a_15 :: [va_rf r_8, .int x1, .int x_12]) hp_3 nx_4 (zQv g fun hp_13 nx_14 =>
  ((0 + c_1) ≤ mc ∧ (0 + s_2) ≤ ms ∧ Post hp_13 nx_14)))))))
set_option maxHeartbeats 40000000 in
theorem met_J5_putStringAt {l : Launch} {g : zG} {d : Nat} {mc ms : Nat} {h0 : Nat} {x1 : Int32} {r2 : Option Nat} {hp : zHp} {nx : Nat} {Post : zHp → Nat → Prop} (hw : wp_J5_putStringAt l g d mc ms h0 x1 r2 hp nx Post) : zMt l g yJ5_putStringAt cJ5_putStringAt 3 none (d + 1) mc ms [.ref h0, .int x1, va_rf r2] hp nx (zQv g Post) := by
  refine z_start (by decide) (by cases r2 <;> exact Nat.le_of_ble_eq_true rfl) ?_
  intro p e s m below meth c hk hr hin hH hz ls hl
  have hx := hk.1.1
  have hb := hk.1.2.1
  have hown := hk.1.2.2.2.1
  have hts := hk.1.2.2.2.2
  have hS : va_S (zAd g) s.heap s.heap [] := va_S.rf
  have hl : lv_has ls 3 [(0, va_rf (some h0)), (1, .int x1), (2, va_rf r2)] := by cases r2 <;> exact hl
  unfold wp_J5_putStringAt at hw
  refine zr_aload_n (r := some h0) hx hb dJ5_putStringAt_0 rfl (lv_at hl 0 rfl) ?_
  refine zr_aload_n (r := r2) hx hb dJ5_putStringAt_1 rfl (lv_at hl 2 rfl) ?_
  obtain ⟨c_1, s_2, hcl, hsl, hw⟩ := hw
  obtain ⟨a_18, ci_19, fs_20, er, he, hc, hw⟩ := zo_e hw
  obtain rfl := List.mem_singleton.mp hc
  refine zr_callv (zw_runV (As := [va_rf r2]) hk hH hz hS hl.1 er hw ⟨callB_of 1 hts (lw_meth q480) rfl rfl rfl (hts _ q138) (hts _ q477) (by decide +kernel) (z_room (Nat.le_of_ble_eq_true rfl)), hts _ q479, z_selP (hts _ q436) rfl (hts _ q479) ((hk.2.2.1.1 _ q478 rfl).use rfl) (by decide)⟩ he rfl rfl rfl (Nat.le_of_ble_eq_true rfl) dJ5_putStringAt_2 ⟨hcl, hsl⟩) hS (fun hp_3 nx_4 hw H locs hH hz hS => ?_)
  refine zr_aload_n (r := r2) hx hb dJ5_putStringAt_5 rfl (lv_at hl 2 rfl) ?_
  refine zr_aload_n (r := some h0) hx hb dJ5_putStringAt_6 rfl (lv_at hl 0 rfl) ?_
  obtain ⟨a_5, ci_6, fs_7, r_8, er, he, hc, hv, hw⟩ := zgR_e hw
  refine zw_get hk hH er he hv (fk_J5_15 hc) dJ5_putStringAt_7 ?_
  refine lv_iload_n hx hb dJ5_putStringAt_10 rfl (lv_at hl 1 rfl) ?_
  refine zr_aload_n (r := some h0) hx hb dJ5_putStringAt_11 rfl (lv_at hl 0 rfl) ?_
  obtain ⟨a_9, ci_10, fs_11, x_12, er, he, hc, hv, hw⟩ := zgI_e hw
  refine zw_get hk hH er he hv (fk_J5_22 hc) dJ5_putStringAt_12 ?_
  obtain ⟨hcl, hsl, hw⟩ := hw
  obtain ⟨a_15, ci_16, fs_17, er, he, hc, hw⟩ := zo_e hw
  obtain rfl := List.mem_singleton.mp hc
  refine zr_callv (zw_runV (As := [va_rf r_8, .int x1, .int x_12]) hk hH hz hS hl.1 er hw (cwV 3 hts (lw_V q501 q502 q503 q140 q504) rfl rfl rfl (by decide +kernel) (z_room (Nat.le_of_ble_eq_true rfl))) he rfl rfl rfl (Nat.le_of_ble_eq_true rfl) dJ5_putStringAt_15 ⟨hcl, hsl⟩) hS (fun hp_13 nx_14 hw H locs hH hz hS => ?_)
  obtain ⟨hkc, hks, hw⟩ := hw
  exact zr_vret hk hr hH hz hS hw hkc hks dJ5_putStringAt_18
def wp_J5_inflateIfNeededFor (l : Launch) (g : zG) (d : Nat) (mc ms : Nat) (h0 : Nat) (r1 : Option Nat) (hp : zHp) (nx : Nat) (Post : zHp → Nat → Prop) : Prop :=
  (∃ P_21 : zHp → Nat → Nat → Nat → Prop, (∀ (hp_1 : zHp) (nx_2 : Nat) (kc_3 : Nat) (ks_4 : Nat), P_21 hp_1 nx_2 kc_3 ks_4 →
  (kc_3 ≤ mc ∧ ks_4 ≤ ms ∧ Post hp_1 nx_2)) ∧
  (((1 : Int32) = 0 →
  P_21 hp nx 0 0) ∧
  (¬ (1 : Int32) = 0 →
  (zgI hp (some h0) [39] 1 fun x_8 =>
  (0 ≤ mc ∧ 0 ≤ ms ∧ zo hp r1 [40] fun a_19 ci_20 fs_21 => zMt l g yJ7_coder cJ7_coder 1 (some .byte) d 0 0 (.ref a_19 :: []) hp nx (zQi g fun x_11 hp_9 nx_10 =>
  ((x_8 = x_11 →
  P_21 hp_9 nx_10 0 0) ∧
  (¬ x_8 = x_11 →
  (∃ c_12 s_13 : Nat, 0 + c_12 ≤ mc ∧ 0 + s_13 ≤ ms ∧ zo hp_9 (some h0) [39] fun a_16 ci_17 fs_18 => zMt l g yJ5_inflate cJ5_inflate 2 none d c_12 s_13 (.ref a_16 :: []) hp_9 nx_10 (zQv g fun hp_14 nx_15 =>
  P_21 hp_14 nx_15 (0 + c_12) (0 + s_13)))))))))))
set_option maxHeartbeats 40000000 in
theorem met_J5_inflateIfNeededFor {l : Launch} {g : zG} {d : Nat} {mc ms : Nat} {h0 : Nat} {r1 : Option Nat} {hp : zHp} {nx : Nat} {Post : zHp → Nat → Prop} (hw : wp_J5_inflateIfNeededFor l g d mc ms h0 r1 hp nx Post) : zMt l g yJ5_inflateIfNeededFor cJ5_inflateIfNeededFor 2 none (d + 1) mc ms [.ref h0, va_rf r1] hp nx (zQv g Post) := by
  refine z_start (by decide) (by cases r1 <;> exact Nat.le_of_ble_eq_true rfl) ?_
  intro p e s m below meth c hk hr hin hH hz ls hl
  have hx := hk.1.1
  have hb := hk.1.2.1
  have hown := hk.1.2.2.2.1
  have hts := hk.1.2.2.2.2
  have hS : va_S (zAd g) s.heap s.heap [] := va_S.rf
  have hl : lv_has ls 2 [(0, va_rf (some h0)), (1, va_rf r1)] := by cases r1 <;> exact hl
  unfold wp_J5_inflateIfNeededFor at hw
  refine zw_gets hk hS 2 rfl q340 dJ5_inflateIfNeededFor_0 ?_
  obtain ⟨P_21, hP_21, hw⟩ := hw
  have hJ_21 : ∀ (hp_1 : zHp) (nx_2 : Nat) (kc_3 : Nat) (ks_4 : Nat) (H : Heap) (locs : List Loc) (ls : Array Slot), P_21 hp_1 nx_2 kc_3 ks_4 → lv_has ls 2 [(0, va_rf (some h0)), (1, va_rf r1)] → zHd g hp_1 H → H.size = nx_2 → va_S (zAd g) s.heap H locs → W p l e (zrm (d + 1) mc ms) s m ([.ref h0, va_rf r1] : List Value).toArray below meth c H locs kc_3 ks_4 (MQ below (zQv g Post) ([.ref h0, va_rf r1] : List Value).toArray s mc ms (zAd g)) (F0 m 21 ls []) := by
    intro hp_1 nx_2 kc_3 ks_4 H locs ls hw hl hH hz hS
    have hw := hP_21 hp_1 nx_2 kc_3 ks_4 hw
    obtain ⟨hkc, hks, hw⟩ := hw
    exact zr_vret hk hr hH hz hS hw hkc hks dJ5_inflateIfNeededFor_21
  refine lv_if_eq (tgt := 21) hx hb dJ5_inflateIfNeededFor_3 (by decide) (fun hc => ?_) (fun hc => ?_)
  · have hw := hw.1 hc
    exact hJ_21 hp nx 0 0 _ _ _ hw hl hH hz hS
  · have hw := hw.2 hc
    refine zr_aload_n (r := some h0) hx hb dJ5_inflateIfNeededFor_6 rfl (lv_at hl 0 rfl) ?_
    obtain ⟨a_5, ci_6, fs_7, x_8, er, he, hc, hv, hw⟩ := zgI_e hw
    refine zw_get hk hH er he hv (fk_J5_22 hc) dJ5_inflateIfNeededFor_7 ?_
    refine zr_aload_n (r := r1) hx hb dJ5_inflateIfNeededFor_10 rfl (lv_at hl 1 rfl) ?_
    obtain ⟨hcl, hsl, hw⟩ := hw
    obtain ⟨a_19, ci_20, fs_21, er, he, hc, hw⟩ := zo_e hw
    obtain rfl := List.mem_singleton.mp hc
    refine zr_calli (zw_runV (As := []) hk hH hz hS hl.1 er hw (cwV 0 hts (lw_V q481 q469 q470 q140 q471) rfl rfl rfl (by decide +kernel) (z_room (Nat.le_of_ble_eq_true rfl))) he rfl rfl rfl (Nat.le_of_ble_eq_true rfl) dJ5_inflateIfNeededFor_11 ⟨hcl, hsl⟩) hS (fun x_11 hp_9 nx_10 hw H locs hH hz hS => ?_)
    refine lv_icmp_eq (tgt := 21) hx hb dJ5_inflateIfNeededFor_14 (by decide) (fun hc => ?_) (fun hc => ?_)
    · have hw := hw.1 hc
      exact hJ_21 hp_9 nx_10 0 0 _ _ _ hw hl hH hz hS
    · have hw := hw.2 hc
      refine zr_aload_n (r := some h0) hx hb dJ5_inflateIfNeededFor_17 rfl (lv_at hl 0 rfl) ?_
      obtain ⟨c_12, s_13, hcl, hsl, hw⟩ := hw
      obtain ⟨a_16, ci_17, fs_18, er, he, hc, hw⟩ := zo_e hw
      obtain rfl := List.mem_singleton.mp hc
      refine zr_callv (zw_runV (As := []) hk hH hz hS hl.1 er hw ⟨callB_of 0 hts (lw_meth q485) rfl rfl rfl (hts _ q138) (hts _ q482) (by decide +kernel) (z_room (Nat.le_of_ble_eq_true rfl)), hts _ q484, z_selP (hts _ q436) rfl (hts _ q484) ((hk.2.2.1.1 _ q483 rfl).use rfl) (by decide)⟩ he rfl rfl rfl (Nat.le_of_ble_eq_true rfl) dJ5_inflateIfNeededFor_18 ⟨hcl, hsl⟩) hS (fun hp_14 nx_15 hw H locs hH hz hS => ?_)
      exact hJ_21 hp_14 nx_15 (0 + c_12) (0 + s_13) _ _ _ hw hl hH hz hS
def wp_J5_append_2 (l : Launch) (g : zG) (d : Nat) (mc ms : Nat) (h0 : Nat) (x1 : Int32) (hp : zHp) (nx : Nat) (Post : Option Nat → zHp → Nat → Prop) : Prop :=
  (zgI hp (some h0) [39] 3 fun x_4 =>
  (0 ≤ mc ∧ 0 ≤ ms ∧ zMt l g yJ15_stringSize cJ15_stringSize 4 (some .int) d 0 0 [.int x1] hp nx (zQi g fun x_7 hp_5 nx_6 =>
  (∀ x_8 : Int32, x_8 = x_4 + x_7 →
  (∃ c_9 s_10 : Nat, 0 + c_9 ≤ mc ∧ 0 + s_10 ≤ ms ∧ zo hp_5 (some h0) [39] fun a_43 ci_44 fs_45 => zMt l g yJ5_ensureCapacityInternal cJ5_ensureCapacityInternal 3 none d c_9 s_10 (.ref a_43 :: [.int x_8]) hp_5 nx_6 (zQv g fun hp_11 nx_12 =>
  ((0 + c_9) ≤ mc ∧ (0 + s_10) ≤ ms ∧ zo hp_11 (some h0) [39] fun a_40 ci_41 fs_42 => zMt l g yJ5_isLatin1 cJ5_isLatin1 1 (some .boolean) d 0 0 (.ref a_40 :: []) hp_11 nx_12 (zQi g fun x_15 hp_13 nx_14 =>
  (∃ P_48 : Int32 → Int32 → zHp → Nat → Nat → Nat → Prop, (∀ (x_16 : Int32) (x_17 : Int32) (hp_18 : zHp) (nx_19 : Nat) (kc_20 : Nat) (ks_21 : Nat), P_48 x_16 x_17 hp_18 nx_19 kc_20 ks_21 →
  (zpt g hp_18 (some h0) [39] 3 (.int x_17) fun hp_25 =>
  (kc_20 ≤ mc ∧ ks_21 ≤ ms ∧ Post (some h0) hp_25 nx_19))) ∧
  ((x_15 = 0 →
  (zgR hp_13 (some h0) [39] 0 fun r_29 =>
  ((0 + c_9) ≤ mc ∧ (0 + s_10) ≤ ms ∧ zMt l g yJ8_getChars cJ8_getChars 5 (some .int) d 0 0 [.int x1, .int x_4, .int x_8, va_rf r_29] hp_13 nx_14 (zQi g fun x_32 hp_30 nx_31 =>
  P_48 x_4 x_8 hp_30 nx_31 (0 + c_9) (0 + s_10))))) ∧
  (¬ x_15 = 0 →
  (zgR hp_13 (some h0) [39] 0 fun r_36 =>
  ((0 + c_9) ≤ mc ∧ (0 + s_10) ≤ ms ∧ zMt l g yJ15_getChars cJ15_getChars 7 (some .int) d 0 0 [.int x1, .int x_8, va_rf r_36] hp_13 nx_14 (zQi g fun x_39 hp_37 nx_38 =>
  P_48 x_4 x_8 hp_37 nx_38 (0 + c_9) (0 + s_10)))))))))))))))
set_option maxHeartbeats 40000000 in
theorem met_J5_append_2 {l : Launch} {g : zG} {d : Nat} {mc ms : Nat} {h0 : Nat} {x1 : Int32} {hp : zHp} {nx : Nat} {Post : Option Nat → zHp → Nat → Prop} (hw : wp_J5_append_2 l g d mc ms h0 x1 hp nx Post) : zMt l g yJ5_append_2 cJ5_append_2 4 (some (.object "java/lang/AbstractStringBuilder")) (d + 1) mc ms [.ref h0, .int x1] hp nx (zQq g Post) := by
  refine z_start (by decide) (Nat.le_of_ble_eq_true rfl) ?_
  intro p e s m below meth c hk hr hin hH hz ls hl
  have hx := hk.1.1
  have hb := hk.1.2.1
  have hown := hk.1.2.2.2.1
  have hts := hk.1.2.2.2.2
  have hS : va_S (zAd g) s.heap s.heap [] := va_S.rf
  have hl : lv_has ls 4 [(0, va_rf (some h0)), (1, .int x1)] := hl
  unfold wp_J5_append_2 at hw
  refine zr_aload_n (r := some h0) hx hb dJ5_append_2_0 rfl (lv_at hl 0 rfl) ?_
  obtain ⟨a_1, ci_2, fs_3, x_4, er, he, hc, hv, hw⟩ := zgI_e hw
  refine zw_get hk hH er he hv (fk_J5_79 hc) dJ5_append_2_1 ?_
  refine lv_istore_n (i := 2) (lv' := [(2, .int x_4), (0, va_rf (some h0)), (1, .int x1)]) hx hb dJ5_append_2_4 rfl hl (by decide) (by first | rfl | simp [List.filter_cons, z_cat, z_catI, z_catJ, z_catF, z_catD]) (fun ls hl => ?_)
  refine lv_iload_n hx hb dJ5_append_2_5 rfl (lv_at hl 0 rfl) ?_
  refine lv_iload_n hx hb dJ5_append_2_6 rfl (lv_at hl 2 rfl) ?_
  obtain ⟨hcl, hsl, hw⟩ := hw
  refine zr_calli (zr_runS (As := [.int x1]) hk hH hz hS hl.1 hw (va_cwS 1 hts (lw_S q514 q515 q149 q516) rfl rfl rfl (by decide +kernel) (z_room (Nat.le_of_ble_eq_true rfl))) rfl rfl (Nat.le_of_ble_eq_true rfl) dJ5_append_2_7 ⟨hcl, hsl⟩) hS (fun x_7 hp_5 nx_6 hw H locs hH hz hS => ?_)
  refine lv_iadd hx hb dJ5_append_2_10 ?_
  refine lv_topi (fun x_8 ex_8 => ?_)
  have hw := hw x_8 ex_8
  refine lv_istore_n (i := 3) (lv' := [(3, .int x_8), (2, .int x_4), (0, va_rf (some h0)), (1, .int x1)]) hx hb dJ5_append_2_11 rfl hl (by decide) (by first | rfl | simp [List.filter_cons, z_cat, z_catI, z_catJ, z_catF, z_catD]) (fun ls hl => ?_)
  refine zr_aload_n (r := some h0) hx hb dJ5_append_2_12 rfl (lv_at hl 2 rfl) ?_
  refine lv_iload_n hx hb dJ5_append_2_13 rfl (lv_at hl 0 rfl) ?_
  obtain ⟨c_9, s_10, hcl, hsl, hw⟩ := hw
  obtain ⟨a_43, ci_44, fs_45, er, he, hc, hw⟩ := zo_e hw
  obtain rfl := List.mem_singleton.mp hc
  refine zr_callv (zw_runV (As := [.int x_8]) hk hH hz hS hl.1 er hw ⟨callB_of 1 hts (lw_meth q401) rfl rfl rfl (hts _ q138) (hts _ q398) (by decide +kernel) (z_room (Nat.le_of_ble_eq_true rfl)), hts _ q400, z_selP (hts _ q436) rfl (hts _ q400) ((hk.2.2.1.1 _ q399 rfl).use rfl) (by decide)⟩ he rfl rfl rfl (Nat.le_of_ble_eq_true rfl) dJ5_append_2_14 ⟨hcl, hsl⟩) hS (fun hp_11 nx_12 hw H locs hH hz hS => ?_)
  refine zr_aload_n (r := some h0) hx hb dJ5_append_2_17 rfl (lv_at hl 2 rfl) ?_
  obtain ⟨hcl, hsl, hw⟩ := hw
  obtain ⟨a_40, ci_41, fs_42, er, he, hc, hw⟩ := zo_e hw
  obtain rfl := List.mem_singleton.mp hc
  refine zr_calli (zw_runU (As := []) hk hH hz hS hl.1 er hw (va_cwU 0 hts (z_U q433 q435 q436 q434 q138 q437) rfl rfl rfl rfl (by decide +kernel) (z_room (Nat.le_of_ble_eq_true rfl))) he rfl rfl rfl (Nat.le_of_ble_eq_true rfl) dJ5_append_2_18 ⟨hcl, hsl⟩) hS (fun x_15 hp_13 nx_14 hw H locs hH hz hS => ?_)
  obtain ⟨P_48, hP_48, hw⟩ := hw
  have hJ_48 : ∀ (x_16 : Int32) (x_17 : Int32) (hp_18 : zHp) (nx_19 : Nat) (kc_20 : Nat) (ks_21 : Nat) (H : Heap) (locs : List Loc) (ls : Array Slot), P_48 x_16 x_17 hp_18 nx_19 kc_20 ks_21 → lv_has ls 4 [(0, va_rf (some h0)), (1, .int x1), (2, .int x_16), (3, .int x_17)] → zHd g hp_18 H → H.size = nx_19 → va_S (zAd g) s.heap H locs → W p l e (zrm (d + 1) mc ms) s m ([.ref h0, .int x1] : List Value).toArray below meth c H locs kc_20 ks_21 (MQ below (zQq g Post) ([.ref h0, .int x1] : List Value).toArray s mc ms (zAd g)) (F0 m 48 ls []) := by
    intro x_16 x_17 hp_18 nx_19 kc_20 ks_21 H locs ls hw hl hH hz hS
    have hw := hP_48 x_16 x_17 hp_18 nx_19 kc_20 ks_21 hw
    refine zr_aload_n (r := some h0) hx hb dJ5_append_2_48 rfl (lv_at hl 0 rfl) ?_
    refine lv_iload_n hx hb dJ5_append_2_49 rfl (lv_at hl 3 rfl) ?_
    obtain ⟨a_22, ci_23, fs_24, hp_25, er, he, hc, hA, hkl, eh, hw⟩ := zpt_e hw
    refine zw_put hk hH hz hS er he hA hkl eh (fp_J5_79 hc) rfl rfl dJ5_append_2_50 (fun H locs hH hz hS => ?_)
    refine zr_aload_n (r := some h0) hx hb dJ5_append_2_53 rfl (lv_at hl 0 rfl) ?_
    obtain ⟨hkc, hks, hw⟩ := hw
    exact zr_aret (r := some h0) hk hr (Or.inl ⟨_, rfl⟩) hH hz hS hw hkc hks dJ5_append_2_54
  refine lv_if_eq (tgt := 37) hx hb dJ5_append_2_21 (by decide) (fun hc => ?_) (fun hc => ?_)
  · have hw := hw.1 hc
    refine lv_iload_n hx hb dJ5_append_2_37 rfl (lv_at hl 3 rfl) ?_
    refine lv_iload_n hx hb dJ5_append_2_38 rfl (lv_at hl 1 rfl) ?_
    refine lv_iload_n hx hb dJ5_append_2_39 rfl (lv_at hl 0 rfl) ?_
    refine zr_aload_n (r := some h0) hx hb dJ5_append_2_40 rfl (lv_at hl 2 rfl) ?_
    obtain ⟨a_26, ci_27, fs_28, r_29, er, he, hc, hv, hw⟩ := zgR_e hw
    refine zw_get hk hH er he hv (fk_J5_15 hc) dJ5_append_2_41 ?_
    obtain ⟨hcl, hsl, hw⟩ := hw
    refine zr_calli (zr_runS (As := [.int x1, .int x_4, .int x_8, va_rf r_29]) hk hH hz hS hl.1 hw (va_cwS 4 hts (lw_S q524 q525 q141 q526) rfl rfl rfl (by decide +kernel) (z_room (Nat.le_of_ble_eq_true rfl))) rfl rfl (Nat.le_of_ble_eq_true rfl) dJ5_append_2_44 ⟨hcl, hsl⟩) hS (fun x_32 hp_30 nx_31 hw H locs hH hz hS => ?_)
    refine lv_pop hx hb dJ5_append_2_47 rfl ?_
    exact hJ_48 x_4 x_8 hp_30 nx_31 (0 + c_9) (0 + s_10) _ _ _ hw (lv_sub hl [2, 3, 1, 0] rfl) hH hz hS
  · have hw := hw.2 hc
    refine lv_iload_n hx hb dJ5_append_2_24 rfl (lv_at hl 3 rfl) ?_
    refine lv_iload_n hx hb dJ5_append_2_25 rfl (lv_at hl 0 rfl) ?_
    refine zr_aload_n (r := some h0) hx hb dJ5_append_2_26 rfl (lv_at hl 2 rfl) ?_
    obtain ⟨a_33, ci_34, fs_35, r_36, er, he, hc, hv, hw⟩ := zgR_e hw
    refine zw_get hk hH er he hv (fk_J5_15 hc) dJ5_append_2_27 ?_
    obtain ⟨hcl, hsl, hw⟩ := hw
    refine zr_calli (zr_runS (As := [.int x1, .int x_8, va_rf r_36]) hk hH hz hS hl.1 hw (va_cwS 3 hts (lw_S q517 q518 q149 q519) rfl rfl rfl (by decide +kernel) (z_room (Nat.le_of_ble_eq_true rfl))) rfl rfl (Nat.le_of_ble_eq_true rfl) dJ5_append_2_30 ⟨hcl, hsl⟩) hS (fun x_39 hp_37 nx_38 hw H locs hH hz hS => ?_)
    refine lv_pop hx hb dJ5_append_2_33 rfl ?_
    refine lv_goto (tgt := 48) hx hb dJ5_append_2_34 (by decide) ?_
    exact hJ_48 x_4 x_8 hp_37 nx_38 (0 + c_9) (0 + s_10) _ _ _ hw (lv_sub hl [2, 3, 1, 0] rfl) hH hz hS
def wp_J5_append_3 (l : Launch) (g : zG) (d : Nat) (mc ms : Nat) (h0 : Nat) (x1 : Int32) (hp : zHp) (nx : Nat) (Post : Option Nat → zHp → Nat → Prop) : Prop :=
  (zgI hp (some h0) [39] 3 fun x_4 =>
  (∃ c_5 s_6 : Nat, 0 + c_5 ≤ mc ∧ 0 + s_6 ≤ ms ∧ zo hp (some h0) [39] fun a_73 ci_74 fs_75 => zMt l g yJ5_ensureCapacityInternal cJ5_ensureCapacityInternal 3 none d c_5 s_6 (.ref a_73 :: [.int (x_4 + (1 : Int32))]) hp nx (zQv g fun hp_7 nx_8 =>
  ((0 + c_5) ≤ mc ∧ (0 + s_6) ≤ ms ∧ zo hp_7 (some h0) [39] fun a_70 ci_71 fs_72 => zMt l g yJ5_isLatin1 cJ5_isLatin1 1 (some .boolean) d 0 0 (.ref a_70 :: []) hp_7 nx_8 (zQi g fun x_11 hp_9 nx_10 =>
  (∃ P_75 : zHp → Nat → Nat → Nat → Prop, (∀ (hp_12 : zHp) (nx_13 : Nat) (kc_14 : Nat) (ks_15 : Nat), P_75 hp_12 nx_13 kc_14 ks_15 →
  (kc_14 ≤ mc ∧ ks_15 ≤ ms ∧ Post (some h0) hp_12 nx_13)) ∧
  (∃ P_45 : zHp → Nat → Nat → Nat → Prop, (∀ (hp_16 : zHp) (nx_17 : Nat) (kc_18 : Nat) (ks_19 : Nat), P_45 hp_16 nx_17 kc_18 ks_19 →
  (kc_18 ≤ mc ∧ ks_19 ≤ ms ∧ zo hp_16 (some h0) [39] fun a_48 ci_49 fs_50 => zMt l g yJ5_isLatin1 cJ5_isLatin1 1 (some .boolean) d 0 0 (.ref a_48 :: []) hp_16 nx_17 (zQi g fun x_22 hp_20 nx_21 =>
  (∃ P_56 : zHp → Nat → Nat → Nat → Prop, (∀ (hp_23 : zHp) (nx_24 : Nat) (kc_25 : Nat) (ks_26 : Nat), P_56 hp_23 nx_24 kc_25 ks_26 →
  (zgR hp_23 (some h0) [39] 0 fun r_30 =>
  (zgI hp_23 (some h0) [39] 3 fun x_34 =>
  (zpt g hp_23 (some h0) [39] 3 (.int (x_34 + (1 : Int32))) fun hp_38 =>
  (kc_25 ≤ mc ∧ ks_26 ≤ ms ∧ zMt l g yJ8_putCharSB cJ8_putCharSB 3 none d 0 0 [va_rf r_30, .int x_34, .int x1] hp_38 nx_24 (zQv g fun hp_39 nx_40 =>
  P_75 hp_39 nx_40 kc_25 ks_26)))))) ∧
  ((x_22 = 0 →
  P_56 hp_20 nx_21 kc_18 ks_19) ∧
  (¬ x_22 = 0 →
  (∃ c_41 s_42 : Nat, kc_18 + c_41 ≤ mc ∧ ks_19 + s_42 ≤ ms ∧ zo hp_20 (some h0) [39] fun a_45 ci_46 fs_47 => zMt l g yJ5_inflate cJ5_inflate 2 none d c_41 s_42 (.ref a_45 :: []) hp_20 nx_21 (zQv g fun hp_43 nx_44 =>
  P_56 hp_43 nx_44 (kc_18 + c_41) (ks_19 + s_42))))))))) ∧
  ((x_11 = 0 →
  P_45 hp_9 nx_10 (0 + c_5) (0 + s_6)) ∧
  (¬ x_11 = 0 →
  ((0 + c_5) ≤ mc ∧ (0 + s_6) ≤ ms ∧ zMt l g yJ13_canEncode cJ13_canEncode 1 (some .boolean) d 0 0 [.int x1] hp_9 nx_10 (zQi g fun x_53 hp_51 nx_52 =>
  ((x_53 = 0 →
  P_45 hp_51 nx_52 (0 + c_5) (0 + s_6)) ∧
  (¬ x_53 = 0 →
  (zgR hp_51 (some h0) [39] 0 fun r_57 =>
  (zgI hp_51 (some h0) [39] 3 fun x_61 =>
  (zpt g hp_51 (some h0) [39] 3 (.int (x_61 + (1 : Int32))) fun hp_65 =>
  (zaI (g.2.1 2) hp_65 r_57 fun a_66 n_67 f_68 => vp_in x_61 n_67 ∧ zB g ≤ a_66 ∧ ∀ hp_69 : zHp, hp_69 = va_up hp_65 a_66 (some (.inl (g.2.1 2, n_67, .inl (va_up f_68 x_61.toNatClampNeg (vp_nar .byte x1.toInt8.toInt32))))) →
  P_75 hp_69 nx_52 (0 + c_5) (0 + s_6))))))))))))))))))
set_option maxHeartbeats 40000000 in
theorem met_J5_append_3 {l : Launch} {g : zG} {d : Nat} {mc ms : Nat} {h0 : Nat} {x1 : Int32} {hp : zHp} {nx : Nat} {Post : Option Nat → zHp → Nat → Prop} (hw : wp_J5_append_3 l g d mc ms h0 x1 hp nx Post) : zMt l g yJ5_append_3 cJ5_append_3 2 (some (.object "java/lang/AbstractStringBuilder")) (d + 1) mc ms [.ref h0, .int x1] hp nx (zQq g Post) := by
  refine z_start (by decide) (Nat.le_of_ble_eq_true rfl) ?_
  intro p e s m below meth c hk hr hin hH hz ls hl
  have hx := hk.1.1
  have hb := hk.1.2.1
  have hown := hk.1.2.2.2.1
  have hts := hk.1.2.2.2.2
  have hS : va_S (zAd g) s.heap s.heap [] := va_S.rf
  have hl : lv_has ls 2 [(0, va_rf (some h0)), (1, .int x1)] := hl
  unfold wp_J5_append_3 at hw
  refine zr_aload_n (r := some h0) hx hb dJ5_append_3_0 rfl (lv_at hl 0 rfl) ?_
  refine zr_aload_n (r := some h0) hx hb dJ5_append_3_1 rfl (lv_at hl 0 rfl) ?_
  obtain ⟨a_1, ci_2, fs_3, x_4, er, he, hc, hv, hw⟩ := zgI_e hw
  refine zw_get hk hH er he hv (fk_J5_79 hc) dJ5_append_3_2 ?_
  refine lv_iconst (v := (1 : Int32)) hx hb dJ5_append_3_5 (by decide) ?_
  refine lv_iadd hx hb dJ5_append_3_6 ?_
  obtain ⟨c_5, s_6, hcl, hsl, hw⟩ := hw
  obtain ⟨a_73, ci_74, fs_75, er, he, hc, hw⟩ := zo_e hw
  obtain rfl := List.mem_singleton.mp hc
  refine zr_callv (zw_runV (As := [.int (x_4 + (1 : Int32))]) hk hH hz hS hl.1 er hw ⟨callB_of 1 hts (lw_meth q401) rfl rfl rfl (hts _ q138) (hts _ q398) (by decide +kernel) (z_room (Nat.le_of_ble_eq_true rfl)), hts _ q400, z_selP (hts _ q436) rfl (hts _ q400) ((hk.2.2.1.1 _ q399 rfl).use rfl) (by decide)⟩ he rfl rfl rfl (Nat.le_of_ble_eq_true rfl) dJ5_append_3_7 ⟨hcl, hsl⟩) hS (fun hp_7 nx_8 hw H locs hH hz hS => ?_)
  refine zr_aload_n (r := some h0) hx hb dJ5_append_3_10 rfl (lv_at hl 0 rfl) ?_
  obtain ⟨hcl, hsl, hw⟩ := hw
  obtain ⟨a_70, ci_71, fs_72, er, he, hc, hw⟩ := zo_e hw
  obtain rfl := List.mem_singleton.mp hc
  refine zr_calli (zw_runU (As := []) hk hH hz hS hl.1 er hw (va_cwU 0 hts (z_U q433 q435 q436 q434 q138 q437) rfl rfl rfl rfl (by decide +kernel) (z_room (Nat.le_of_ble_eq_true rfl))) he rfl rfl rfl (Nat.le_of_ble_eq_true rfl) dJ5_append_3_11 ⟨hcl, hsl⟩) hS (fun x_11 hp_9 nx_10 hw H locs hH hz hS => ?_)
  obtain ⟨P_75, hP_75, hw⟩ := hw
  have hJ_75 : ∀ (hp_12 : zHp) (nx_13 : Nat) (kc_14 : Nat) (ks_15 : Nat) (H : Heap) (locs : List Loc) (ls : Array Slot), P_75 hp_12 nx_13 kc_14 ks_15 → lv_has ls 2 [(0, va_rf (some h0)), (1, .int x1)] → zHd g hp_12 H → H.size = nx_13 → va_S (zAd g) s.heap H locs → W p l e (zrm (d + 1) mc ms) s m ([.ref h0, .int x1] : List Value).toArray below meth c H locs kc_14 ks_15 (MQ below (zQq g Post) ([.ref h0, .int x1] : List Value).toArray s mc ms (zAd g)) (F0 m 75 ls []) := by
    intro hp_12 nx_13 kc_14 ks_15 H locs ls hw hl hH hz hS
    have hw := hP_75 hp_12 nx_13 kc_14 ks_15 hw
    refine zr_aload_n (r := some h0) hx hb dJ5_append_3_75 rfl (lv_at hl 0 rfl) ?_
    obtain ⟨hkc, hks, hw⟩ := hw
    exact zr_aret (r := some h0) hk hr (Or.inl ⟨_, rfl⟩) hH hz hS hw hkc hks dJ5_append_3_76
  obtain ⟨P_45, hP_45, hw⟩ := hw
  have hJ_45 : ∀ (hp_16 : zHp) (nx_17 : Nat) (kc_18 : Nat) (ks_19 : Nat) (H : Heap) (locs : List Loc) (ls : Array Slot), P_45 hp_16 nx_17 kc_18 ks_19 → lv_has ls 2 [(0, va_rf (some h0)), (1, .int x1)] → zHd g hp_16 H → H.size = nx_17 → va_S (zAd g) s.heap H locs → W p l e (zrm (d + 1) mc ms) s m ([.ref h0, .int x1] : List Value).toArray below meth c H locs kc_18 ks_19 (MQ below (zQq g Post) ([.ref h0, .int x1] : List Value).toArray s mc ms (zAd g)) (F0 m 45 ls []) := by
    intro hp_16 nx_17 kc_18 ks_19 H locs ls hw hl hH hz hS
    have hw := hP_45 hp_16 nx_17 kc_18 ks_19 hw
    refine zr_aload_n (r := some h0) hx hb dJ5_append_3_45 rfl (lv_at hl 0 rfl) ?_
    obtain ⟨hcl, hsl, hw⟩ := hw
    obtain ⟨a_48, ci_49, fs_50, er, he, hc, hw⟩ := zo_e hw
    obtain rfl := List.mem_singleton.mp hc
    refine zr_calli (zw_runU (As := []) hk hH hz hS hl.1 er hw (va_cwU 0 hts (z_U q433 q435 q436 q434 q138 q437) rfl rfl rfl rfl (by decide +kernel) (z_room (Nat.le_of_ble_eq_true rfl))) he rfl rfl rfl (Nat.le_of_ble_eq_true rfl) dJ5_append_3_46 ⟨hcl, hsl⟩) hS (fun x_22 hp_20 nx_21 hw H locs hH hz hS => ?_)
    obtain ⟨P_56, hP_56, hw⟩ := hw
    have hJ_56 : ∀ (hp_23 : zHp) (nx_24 : Nat) (kc_25 : Nat) (ks_26 : Nat) (H : Heap) (locs : List Loc) (ls : Array Slot), P_56 hp_23 nx_24 kc_25 ks_26 → lv_has ls 2 [(0, va_rf (some h0)), (1, .int x1)] → zHd g hp_23 H → H.size = nx_24 → va_S (zAd g) s.heap H locs → W p l e (zrm (d + 1) mc ms) s m ([.ref h0, .int x1] : List Value).toArray below meth c H locs kc_25 ks_26 (MQ below (zQq g Post) ([.ref h0, .int x1] : List Value).toArray s mc ms (zAd g)) (F0 m 56 ls []) := by
      intro hp_23 nx_24 kc_25 ks_26 H locs ls hw hl hH hz hS
      have hw := hP_56 hp_23 nx_24 kc_25 ks_26 hw
      refine zr_aload_n (r := some h0) hx hb dJ5_append_3_56 rfl (lv_at hl 0 rfl) ?_
      obtain ⟨a_27, ci_28, fs_29, r_30, er, he, hc, hv, hw⟩ := zgR_e hw
      refine zw_get hk hH er he hv (fk_J5_15 hc) dJ5_append_3_57 ?_
      refine zr_aload_n (r := some h0) hx hb dJ5_append_3_60 rfl (lv_at hl 0 rfl) ?_
      refine lv_dup hx hb dJ5_append_3_61 (z_cat _) ?_
      obtain ⟨a_31, ci_32, fs_33, x_34, er, he, hc, hv, hw⟩ := zgI_e hw
      refine zw_get hk hH er he hv (fk_J5_79 hc) dJ5_append_3_62 ?_
      refine lv_dup_x1 hx hb dJ5_append_3_65 rfl (z_cat _) ?_
      refine lv_iconst (v := (1 : Int32)) hx hb dJ5_append_3_66 (by decide) ?_
      refine lv_iadd hx hb dJ5_append_3_67 ?_
      obtain ⟨a_35, ci_36, fs_37, hp_38, er, he, hc, hA, hkl, eh, hw⟩ := zpt_e hw
      refine zw_put hk hH hz hS er he hA hkl eh (fp_J5_79 hc) rfl rfl dJ5_append_3_68 (fun H locs hH hz hS => ?_)
      refine lv_iload_n hx hb dJ5_append_3_71 rfl (lv_at hl 1 rfl) ?_
      obtain ⟨hcl, hsl, hw⟩ := hw
      refine zr_callv (zr_runS (As := [va_rf r_30, .int x_34, .int x1]) hk hH hz hS hl.1 hw (va_cwS 3 hts (lw_S q1423 q1424 q141 q1425) rfl rfl rfl (by decide +kernel) (z_room (Nat.le_of_ble_eq_true rfl))) rfl rfl (Nat.le_of_ble_eq_true rfl) dJ5_append_3_72 ⟨hcl, hsl⟩) hS (fun hp_39 nx_40 hw H locs hH hz hS => ?_)
      exact hJ_75 hp_39 nx_40 kc_25 ks_26 _ _ _ hw hl hH hz hS
    refine lv_if_eq (tgt := 56) hx hb dJ5_append_3_49 (by decide) (fun hc => ?_) (fun hc => ?_)
    · have hw := hw.1 hc
      exact hJ_56 hp_20 nx_21 kc_18 ks_19 _ _ _ hw hl hH hz hS
    · have hw := hw.2 hc
      refine zr_aload_n (r := some h0) hx hb dJ5_append_3_52 rfl (lv_at hl 0 rfl) ?_
      obtain ⟨c_41, s_42, hcl, hsl, hw⟩ := hw
      obtain ⟨a_45, ci_46, fs_47, er, he, hc, hw⟩ := zo_e hw
      obtain rfl := List.mem_singleton.mp hc
      refine zr_callv (zw_runV (As := []) hk hH hz hS hl.1 er hw ⟨callB_of 0 hts (lw_meth q485) rfl rfl rfl (hts _ q138) (hts _ q482) (by decide +kernel) (z_room (Nat.le_of_ble_eq_true rfl)), hts _ q484, z_selP (hts _ q436) rfl (hts _ q484) ((hk.2.2.1.1 _ q483 rfl).use rfl) (by decide)⟩ he rfl rfl rfl (Nat.le_of_ble_eq_true rfl) dJ5_append_3_53 ⟨hcl, hsl⟩) hS (fun hp_43 nx_44 hw H locs hH hz hS => ?_)
      exact hJ_56 hp_43 nx_44 (kc_18 + c_41) (ks_19 + s_42) _ _ _ hw hl hH hz hS
  refine lv_if_eq (tgt := 45) hx hb dJ5_append_3_14 (by decide) (fun hc => ?_) (fun hc => ?_)
  · have hw := hw.1 hc
    exact hJ_45 hp_9 nx_10 (0 + c_5) (0 + s_6) _ _ _ hw hl hH hz hS
  · have hw := hw.2 hc
    refine lv_iload_n hx hb dJ5_append_3_17 rfl (lv_at hl 1 rfl) ?_
    obtain ⟨hcl, hsl, hw⟩ := hw
    refine zr_calli (zr_runS (As := [.int x1]) hk hH hz hS hl.1 hw (va_cwS 1 hts (lw_S q1420 q1421 q147 q1422) rfl rfl rfl (by decide +kernel) (z_room (Nat.le_of_ble_eq_true rfl))) rfl rfl (Nat.le_of_ble_eq_true rfl) dJ5_append_3_18 ⟨hcl, hsl⟩) hS (fun x_53 hp_51 nx_52 hw H locs hH hz hS => ?_)
    refine lv_if_eq (tgt := 45) hx hb dJ5_append_3_21 (by decide) (fun hc => ?_) (fun hc => ?_)
    · have hw := hw.1 hc
      exact hJ_45 hp_51 nx_52 (0 + c_5) (0 + s_6) _ _ _ hw hl hH hz hS
    · have hw := hw.2 hc
      refine zr_aload_n (r := some h0) hx hb dJ5_append_3_24 rfl (lv_at hl 0 rfl) ?_
      obtain ⟨a_54, ci_55, fs_56, r_57, er, he, hc, hv, hw⟩ := zgR_e hw
      refine zw_get hk hH er he hv (fk_J5_15 hc) dJ5_append_3_25 ?_
      refine zr_aload_n (r := some h0) hx hb dJ5_append_3_28 rfl (lv_at hl 0 rfl) ?_
      refine lv_dup hx hb dJ5_append_3_29 (z_cat _) ?_
      obtain ⟨a_58, ci_59, fs_60, x_61, er, he, hc, hv, hw⟩ := zgI_e hw
      refine zw_get hk hH er he hv (fk_J5_79 hc) dJ5_append_3_30 ?_
      refine lv_dup_x1 hx hb dJ5_append_3_33 rfl (z_cat _) ?_
      refine lv_iconst (v := (1 : Int32)) hx hb dJ5_append_3_34 (by decide) ?_
      refine lv_iadd hx hb dJ5_append_3_35 ?_
      obtain ⟨a_62, ci_63, fs_64, hp_65, er, he, hc, hA, hkl, eh, hw⟩ := zpt_e hw
      refine zw_put hk hH hz hS er he hA hkl eh (fp_J5_79 hc) rfl rfl dJ5_append_3_36 (fun H locs hH hz hS => ?_)
      refine lv_iload_n hx hb dJ5_append_3_39 rfl (lv_at hl 1 rfl) ?_
      refine lv_i2b hx hb dJ5_append_3_40 rfl ?_
      obtain ⟨a_66, n_67, f_68, er, he, hi, hA, hw⟩ := zaI_e hw
      obtain ⟨hp_69, eh⟩ : ∃ y : zHp, y = va_up hp_65 a_66 (some (.inl (g.2.1 2, n_67, .inl (va_up f_68 x_61.toNatClampNeg (vp_nar .byte x1.toInt8.toInt32))))) := ⟨_, rfl⟩
      have hw := hw hp_69 eh
      refine zw_bast hk hH hz hS er he hi hA eh dJ5_append_3_41 (fun H locs hH hz hS => ?_)
      refine lv_goto (tgt := 75) hx hb dJ5_append_3_42 (by decide) ?_
      exact hJ_75 hp_69 nx_52 (0 + c_5) (0 + s_6) _ _ _ hw hl hH hz hS
def wp_J7_checkBoundsBeginEnd (l : Launch) (g : zG) (d : Nat) (x0 : Int32) (x1 : Int32) (x2 : Int32) (hp : zHp) (nx : Nat) (Post : zHp → Nat → Prop) : Prop :=
  (∀ r_1 : Option Nat, (zMt l g yJ12_checkFromToIndex cJ12_checkFromToIndex 4 (some .int) d 0 0 [.int x0, .int x1, .int x2, va_rf r_1] hp nx (zQi g fun x_4 hp_2 nx_3 =>
  (Post hp_2 nx_3))))
set_option maxHeartbeats 40000000 in
theorem met_J7_checkBoundsBeginEnd {l : Launch} {g : zG} {d : Nat} {x0 : Int32} {x1 : Int32} {x2 : Int32} {hp : zHp} {nx : Nat} {Post : zHp → Nat → Prop} (hw : wp_J7_checkBoundsBeginEnd l g d x0 x1 x2 hp nx Post) : zMt l g yJ7_checkBoundsBeginEnd cJ7_checkBoundsBeginEnd 3 none (d + 1) 0 0 [.int x0, .int x1, .int x2] hp nx (zQv g Post) := by
  refine z_start (by decide) (Nat.le_of_ble_eq_true rfl) ?_
  intro p e s m below meth c hk hr hin hH hz ls hl
  have hx := hk.1.1
  have hb := hk.1.2.1
  have hown := hk.1.2.2.2.1
  have hts := hk.1.2.2.2.2
  have hS : va_S (zAd g) s.heap s.heap [] := va_S.rf
  have hl : lv_has ls 3 [(0, .int x0), (1, .int x1), (2, .int x2)] := hl
  unfold wp_J7_checkBoundsBeginEnd at hw
  refine lv_iload_n hx hb dJ7_checkBoundsBeginEnd_0 rfl (lv_at hl 0 rfl) ?_
  refine lv_iload_n hx hb dJ7_checkBoundsBeginEnd_1 rfl (lv_at hl 1 rfl) ?_
  refine lv_iload_n hx hb dJ7_checkBoundsBeginEnd_2 rfl (lv_at hl 2 rfl) ?_
  refine zw_getsq hk hS 2 rfl q450 dJ7_checkBoundsBeginEnd_3 (fun r_1 => ?_)
  have hw := hw r_1
  refine zr_calli (zr_runS (As := [.int x0, .int x1, .int x2, va_rf r_1]) hk hH hz hS hl.1 hw (va_cwS 4 hts (lw_S q452 q453 q146 q454) rfl rfl rfl (by decide +kernel) (z_room (Nat.le_of_ble_eq_true rfl))) rfl rfl (Nat.le_of_ble_eq_true rfl) dJ7_checkBoundsBeginEnd_6 ⟨Nat.le_of_ble_eq_true rfl, Nat.le_of_ble_eq_true rfl⟩) hS (fun x_4 hp_2 nx_3 hw H locs hH hz hS => ?_)
  refine lv_pop hx hb dJ7_checkBoundsBeginEnd_9 rfl ?_
  exact zr_vret hk hr hH hz hS hw (Nat.le_of_ble_eq_true rfl) (Nat.le_of_ble_eq_true rfl) dJ7_checkBoundsBeginEnd_10
def wp_J7_checkBoundsOffCount (l : Launch) (g : zG) (d : Nat) (x0 : Int32) (x1 : Int32) (x2 : Int32) (hp : zHp) (nx : Nat) (Post : Int32 → zHp → Nat → Prop) : Prop :=
  (∀ r_1 : Option Nat, (zMt l g yJ12_checkFromIndexSize cJ12_checkFromIndexSize 4 (some .int) d 0 0 [.int x0, .int x1, .int x2, va_rf r_1] hp nx (zQi g fun x_4 hp_2 nx_3 =>
  (Post x_4 hp_2 nx_3))))
set_option maxHeartbeats 40000000 in
theorem met_J7_checkBoundsOffCount {l : Launch} {g : zG} {d : Nat} {x0 : Int32} {x1 : Int32} {x2 : Int32} {hp : zHp} {nx : Nat} {Post : Int32 → zHp → Nat → Prop} (hw : wp_J7_checkBoundsOffCount l g d x0 x1 x2 hp nx Post) : zMt l g yJ7_checkBoundsOffCount cJ7_checkBoundsOffCount 3 (some .int) (d + 1) 0 0 [.int x0, .int x1, .int x2] hp nx (zQi g Post) := by
  refine z_start (by decide) (Nat.le_of_ble_eq_true rfl) ?_
  intro p e s m below meth c hk hr hin hH hz ls hl
  have hx := hk.1.1
  have hb := hk.1.2.1
  have hown := hk.1.2.2.2.1
  have hts := hk.1.2.2.2.2
  have hS : va_S (zAd g) s.heap s.heap [] := va_S.rf
  have hl : lv_has ls 3 [(0, .int x0), (1, .int x1), (2, .int x2)] := hl
  unfold wp_J7_checkBoundsOffCount at hw
  refine lv_iload_n hx hb dJ7_checkBoundsOffCount_0 rfl (lv_at hl 0 rfl) ?_
  refine lv_iload_n hx hb dJ7_checkBoundsOffCount_1 rfl (lv_at hl 1 rfl) ?_
  refine lv_iload_n hx hb dJ7_checkBoundsOffCount_2 rfl (lv_at hl 2 rfl) ?_
  refine zw_getsq hk hS 2 rfl q450 dJ7_checkBoundsOffCount_3 (fun r_1 => ?_)
  have hw := hw r_1
  refine zr_calli (zr_runS (As := [.int x0, .int x1, .int x2, va_rf r_1]) hk hH hz hS hl.1 hw (va_cwS 4 hts (lw_S q498 q499 q146 q500) rfl rfl rfl (by decide +kernel) (z_room (Nat.le_of_ble_eq_true rfl))) rfl rfl (Nat.le_of_ble_eq_true rfl) dJ7_checkBoundsOffCount_6 ⟨Nat.le_of_ble_eq_true rfl, Nat.le_of_ble_eq_true rfl⟩) hS (fun x_4 hp_2 nx_3 hw H locs hH hz hS => ?_)
  exact zr_iret hk hr hH hz hS hw (Nat.le_of_ble_eq_true rfl) (Nat.le_of_ble_eq_true rfl) dJ7_checkBoundsOffCount_9
def wp_J7_checkIndex (l : Launch) (g : zG) (d : Nat) (x0 : Int32) (x1 : Int32) (hp : zHp) (nx : Nat) (Post : zHp → Nat → Prop) : Prop :=
  (∀ r_1 : Option Nat, (zMt l g yJ12_checkIndex cJ12_checkIndex 3 (some .int) d 0 0 [.int x0, .int x1, va_rf r_1] hp nx (zQi g fun x_4 hp_2 nx_3 =>
  (Post hp_2 nx_3))))
set_option maxHeartbeats 40000000 in
theorem met_J7_checkIndex {l : Launch} {g : zG} {d : Nat} {x0 : Int32} {x1 : Int32} {hp : zHp} {nx : Nat} {Post : zHp → Nat → Prop} (hw : wp_J7_checkIndex l g d x0 x1 hp nx Post) : zMt l g yJ7_checkIndex cJ7_checkIndex 2 none (d + 1) 0 0 [.int x0, .int x1] hp nx (zQv g Post) := by
  refine z_start (by decide) (Nat.le_of_ble_eq_true rfl) ?_
  intro p e s m below meth c hk hr hin hH hz ls hl
  have hx := hk.1.1
  have hb := hk.1.2.1
  have hown := hk.1.2.2.2.1
  have hts := hk.1.2.2.2.2
  have hS : va_S (zAd g) s.heap s.heap [] := va_S.rf
  have hl : lv_has ls 2 [(0, .int x0), (1, .int x1)] := hl
  unfold wp_J7_checkIndex at hw
  refine lv_iload_n hx hb dJ7_checkIndex_0 rfl (lv_at hl 0 rfl) ?_
  refine lv_iload_n hx hb dJ7_checkIndex_1 rfl (lv_at hl 1 rfl) ?_
  refine zw_getsq hk hS 2 rfl q450 dJ7_checkIndex_2 (fun r_1 => ?_)
  have hw := hw r_1
  refine zr_calli (zr_runS (As := [.int x0, .int x1, va_rf r_1]) hk hH hz hS hl.1 hw (va_cwS 3 hts (lw_S q1432 q1433 q146 q1434) rfl rfl rfl (by decide +kernel) (z_room (Nat.le_of_ble_eq_true rfl))) rfl rfl (Nat.le_of_ble_eq_true rfl) dJ7_checkIndex_5 ⟨Nat.le_of_ble_eq_true rfl, Nat.le_of_ble_eq_true rfl⟩) hS (fun x_4 hp_2 nx_3 hw H locs hH hz hS => ?_)
  refine lv_pop hx hb dJ7_checkIndex_8 rfl ?_
  exact zr_vret hk hr hH hz hS hw (Nat.le_of_ble_eq_true rfl) (Nat.le_of_ble_eq_true rfl) dJ7_checkIndex_9
def wp_J9_vectorizedHashCode (l : Launch) (g : zG) (d : Nat) (mc ms : Nat) (r0 : Option Nat) (x1 : Int32) (x2 : Int32) (x3 : Int32) (x4 : Int32) (hp : zHp) (nx : Nat) (Post : Int32 → zHp → Nat → Prop) : Prop :=
  (∃ P_157 : Int32 → zHp → Nat → Nat → Nat → Prop, (∀ (x_1 : Int32) (hp_2 : zHp) (nx_3 : Nat) (kc_4 : Nat) (ks_5 : Nat), P_157 x_1 hp_2 nx_3 kc_4 ks_5 →
  (kc_4 ≤ mc ∧ ks_5 ≤ ms ∧ Post x_1 hp_2 nx_3)) ∧
  ((x4 = (4 : Int32) →
  (zCA (g.2.1 2) hp r0 ∧ (0 ≤ mc ∧ 0 ≤ ms ∧ zMt l g yJ9_signedHashCode cJ9_signedHashCode 6 (some .int) d 0 0 [.int x3, va_rf r0, .int x1, .int x2] hp nx (zQi g fun x_8 hp_6 nx_7 =>
  P_157 x_8 hp_6 nx_7 0 0)))) ∧
  (x4 = (5 : Int32) →
  (zIA g hp r0 2 fun x_9 =>
  ((x_9 = 0 →
  (zCA (g.2.1 6) hp r0 ∧ (0 ≤ mc ∧ 0 ≤ ms ∧ zMt l g yJ9_hashCode cJ9_hashCode 6 (some .int) d 0 0 [.int x3, va_rf r0, .int x1, .int x2] hp nx (zQi g fun x_12 hp_10 nx_11 =>
  P_157 x_12 hp_10 nx_11 0 0)))) ∧
  (¬ x_9 = 0 →
  (zCA (g.2.1 2) hp r0 ∧ (∃ c_13 s_14 : Nat, 0 + c_13 ≤ mc ∧ 0 + s_14 ≤ ms ∧ zMt l g yJ9_utf16hashCode cJ9_utf16hashCode 6 (some .int) d c_13 s_14 [.int x3, va_rf r0, .int x1, .int x2] hp nx (zQi g fun x_17 hp_15 nx_16 =>
  P_157 x_17 hp_15 nx_16 (0 + c_13) (0 + s_14)))))))) ∧
  (x4 = (6 : Int32) →
  False) ∧
  (x4 = (7 : Int32) →
  False) ∧
  (x4 = (8 : Int32) →
  (zCA (g.2.1 2) hp r0 ∧ (0 ≤ mc ∧ 0 ≤ ms ∧ zMt l g yJ9_hashCode_2 cJ9_hashCode_2 6 (some .int) d 0 0 [.int x3, va_rf r0, .int x1, .int x2] hp nx (zQi g fun x_20 hp_18 nx_19 =>
  P_157 x_20 hp_18 nx_19 0 0)))) ∧
  (x4 = (9 : Int32) →
  False) ∧
  (x4 = (10 : Int32) →
  (zCA (g.2.1 0) hp r0 ∧ (0 ≤ mc ∧ 0 ≤ ms ∧ zMt l g yJ9_hashCode_4 cJ9_hashCode_4 6 (some .int) d 0 0 [.int x3, va_rf r0, .int x1, .int x2] hp nx (zQi g fun x_26 hp_24 nx_25 =>
  P_157 x_26 hp_24 nx_25 0 0)))) ∧
  (¬ x4 = (4 : Int32) ∧ ¬ x4 = (5 : Int32) ∧ ¬ x4 = (6 : Int32) ∧ ¬ x4 = (7 : Int32) ∧ ¬ x4 = (8 : Int32) ∧ ¬ x4 = (9 : Int32) ∧ ¬ x4 = (10 : Int32) →
  False)))
set_option maxHeartbeats 40000000 in
theorem met_J9_vectorizedHashCode {l : Launch} {g : zG} {d : Nat} {mc ms : Nat} {r0 : Option Nat} {x1 : Int32} {x2 : Int32} {x3 : Int32} {x4 : Int32} {hp : zHp} {nx : Nat} {Post : Int32 → zHp → Nat → Prop} (hw : wp_J9_vectorizedHashCode l g d mc ms r0 x1 x2 x3 x4 hp nx Post) : zMt l g yJ9_vectorizedHashCode cJ9_vectorizedHashCode 5 (some .int) (d + 1) mc ms [va_rf r0, .int x1, .int x2, .int x3, .int x4] hp nx (zQi g Post) := by
  refine z_start (by decide) (by cases r0 <;> exact Nat.le_of_ble_eq_true rfl) ?_
  intro p e s m below meth c hk hr hin hH hz ls hl
  have hx := hk.1.1
  have hb := hk.1.2.1
  have hown := hk.1.2.2.2.1
  have hts := hk.1.2.2.2.2
  have hS : va_S (zAd g) s.heap s.heap [] := va_S.rf
  have hl : lv_has ls 5 [(0, va_rf r0), (1, .int x1), (2, .int x2), (3, .int x3), (4, .int x4)] := by cases r0 <;> exact hl
  unfold wp_J9_vectorizedHashCode at hw
  refine lv_iload hx hb dJ9_vectorizedHashCode_0 (lv_at hl 4 rfl) ?_
  obtain ⟨P_157, hP_157, hw⟩ := hw
  have hJ_157 : ∀ (x_1 : Int32) (hp_2 : zHp) (nx_3 : Nat) (kc_4 : Nat) (ks_5 : Nat) (H : Heap) (locs : List Loc) (ls : Array Slot), P_157 x_1 hp_2 nx_3 kc_4 ks_5 → lv_has ls 5 [(0, va_rf r0), (1, .int x1), (2, .int x2), (3, .int x3), (4, .int x4)] → zHd g hp_2 H → H.size = nx_3 → va_S (zAd g) s.heap H locs → W p l e (zrm (d + 1) mc ms) s m ([va_rf r0, .int x1, .int x2, .int x3, .int x4] : List Value).toArray below meth c H locs kc_4 ks_5 (MQ below (zQi g Post) ([va_rf r0, .int x1, .int x2, .int x3, .int x4] : List Value).toArray s mc ms (zAd g)) (F0 m 157 ls [.int x_1]) := by
    intro x_1 hp_2 nx_3 kc_4 ks_5 H locs ls hw hl hH hz hS
    have hw := hP_157 x_1 hp_2 nx_3 kc_4 ks_5 hw
    obtain ⟨hkc, hks, hw⟩ := hw
    exact zr_iret hk hr hH hz hS hw hkc hks dJ9_vectorizedHashCode_157
  by_cases hc0 : x4 = (4 : Int32)
  · have hw := hw.1 hc0
    refine lv_tableIn (tgt := 44) hx hb dJ9_vectorizedHashCode_2 (by rw [hc0]; decide) (by rw [hc0]; decide) (by rw [hc0]; rfl) (by decide) ?_
    refine lv_iload_n hx hb dJ9_vectorizedHashCode_44 rfl (lv_at hl 3 rfl) ?_
    refine zr_aload_n (r := r0) hx hb dJ9_vectorizedHashCode_45 rfl (lv_at hl 0 rfl) ?_
    obtain ⟨hca, hw⟩ := hw
    refine zw_castA (r := r0) (ty := .byte) hk hH 2 q1687 rfl (fun _ _ h => h) hca dJ9_vectorizedHashCode_46 ?_
    refine lv_iload_n hx hb dJ9_vectorizedHashCode_49 rfl (lv_at hl 1 rfl) ?_
    refine lv_iload_n hx hb dJ9_vectorizedHashCode_50 rfl (lv_at hl 2 rfl) ?_
    obtain ⟨hcl, hsl, hw⟩ := hw
    refine zr_calli (zr_runS (As := [.int x3, va_rf r0, .int x1, .int x2]) hk hH hz hS hl.1 hw (va_cwS 4 hts (lw_S q1688 q1689 q142 q1690) rfl rfl rfl (by decide +kernel) (z_room (Nat.le_of_ble_eq_true rfl))) rfl rfl (Nat.le_of_ble_eq_true rfl) dJ9_vectorizedHashCode_51 ⟨hcl, hsl⟩) hS (fun x_8 hp_6 nx_7 hw H locs hH hz hS => ?_)
    refine lv_goto (tgt := 157) hx hb dJ9_vectorizedHashCode_54 (by decide) ?_
    exact hJ_157 x_8 hp_6 nx_7 0 0 _ _ _ hw hl hH hz hS
  by_cases hc1 : x4 = (5 : Int32)
  · have hw := hw.2.1 hc1
    refine lv_tableIn (tgt := 57) hx hb dJ9_vectorizedHashCode_2 (by rw [hc1]; decide) (by rw [hc1]; decide) (by rw [hc1]; rfl) (by decide) ?_
    refine zr_aload_n (r := r0) hx hb dJ9_vectorizedHashCode_57 rfl (lv_at hl 0 rfl) ?_
    refine zw_instA (r := r0) hk hH 2 (by decide) q1687 hw dJ9_vectorizedHashCode_58 (fun x_9 hw => ?_)
    refine lv_if_eq (tgt := 77) hx hb dJ9_vectorizedHashCode_61 (by decide) (fun hc => ?_) (fun hc => ?_)
    · have hw := hw.1 hc
      refine lv_iload_n hx hb dJ9_vectorizedHashCode_77 rfl (lv_at hl 3 rfl) ?_
      refine zr_aload_n (r := r0) hx hb dJ9_vectorizedHashCode_78 rfl (lv_at hl 0 rfl) ?_
      obtain ⟨hca, hw⟩ := hw
      refine zw_castA (r := r0) (ty := .char) hk hH 6 q1707 rfl (fun _ _ h => h) hca dJ9_vectorizedHashCode_79 ?_
      refine lv_iload_n hx hb dJ9_vectorizedHashCode_82 rfl (lv_at hl 1 rfl) ?_
      refine lv_iload_n hx hb dJ9_vectorizedHashCode_83 rfl (lv_at hl 2 rfl) ?_
      obtain ⟨hcl, hsl, hw⟩ := hw
      refine zr_calli (zr_runS (As := [.int x3, va_rf r0, .int x1, .int x2]) hk hH hz hS hl.1 hw (va_cwS 4 hts (lw_S q1708 q1709 q142 q1710) rfl rfl rfl (by decide +kernel) (z_room (Nat.le_of_ble_eq_true rfl))) rfl rfl (Nat.le_of_ble_eq_true rfl) dJ9_vectorizedHashCode_84 ⟨hcl, hsl⟩) hS (fun x_12 hp_10 nx_11 hw H locs hH hz hS => ?_)
      refine lv_goto (tgt := 157) hx hb dJ9_vectorizedHashCode_87 (by decide) ?_
      exact hJ_157 x_12 hp_10 nx_11 0 0 _ _ _ hw hl hH hz hS
    · have hw := hw.2 hc
      refine lv_iload_n hx hb dJ9_vectorizedHashCode_64 rfl (lv_at hl 3 rfl) ?_
      refine zr_aload_n (r := r0) hx hb dJ9_vectorizedHashCode_65 rfl (lv_at hl 0 rfl) ?_
      obtain ⟨hca, hw⟩ := hw
      refine zw_castA (r := r0) (ty := .byte) hk hH 2 q1687 rfl (fun _ _ h => h) hca dJ9_vectorizedHashCode_66 ?_
      refine lv_iload_n hx hb dJ9_vectorizedHashCode_69 rfl (lv_at hl 1 rfl) ?_
      refine lv_iload_n hx hb dJ9_vectorizedHashCode_70 rfl (lv_at hl 2 rfl) ?_
      obtain ⟨c_13, s_14, hcl, hsl, hw⟩ := hw
      refine zr_calli (zr_runS (As := [.int x3, va_rf r0, .int x1, .int x2]) hk hH hz hS hl.1 hw (va_cwS 4 hts (lw_S q1691 q1692 q142 q1693) rfl rfl rfl (by decide +kernel) (z_room (Nat.le_of_ble_eq_true rfl))) rfl rfl (Nat.le_of_ble_eq_true rfl) dJ9_vectorizedHashCode_71 ⟨hcl, hsl⟩) hS (fun x_17 hp_15 nx_16 hw H locs hH hz hS => ?_)
      refine lv_goto (tgt := 157) hx hb dJ9_vectorizedHashCode_74 (by decide) ?_
      exact hJ_157 x_17 hp_15 nx_16 (0 + c_13) (0 + s_14) _ _ _ hw hl hH hz hS
  by_cases hc2 : x4 = (6 : Int32)
  · have hw := hw.2.2.1 hc2
    refine lv_tableIn (tgt := 129) hx hb dJ9_vectorizedHashCode_2 (by rw [hc2]; decide) (by rw [hc2]; decide) (by rw [hc2]; rfl) (by decide) ?_
    exact hw.elim
  by_cases hc3 : x4 = (7 : Int32)
  · have hw := hw.2.2.2.1 hc3
    refine lv_tableIn (tgt := 129) hx hb dJ9_vectorizedHashCode_2 (by rw [hc3]; decide) (by rw [hc3]; decide) (by rw [hc3]; rfl) (by decide) ?_
    exact hw.elim
  by_cases hc4 : x4 = (8 : Int32)
  · have hw := hw.2.2.2.2.1 hc4
    refine lv_tableIn (tgt := 90) hx hb dJ9_vectorizedHashCode_2 (by rw [hc4]; decide) (by rw [hc4]; decide) (by rw [hc4]; rfl) (by decide) ?_
    refine lv_iload_n hx hb dJ9_vectorizedHashCode_90 rfl (lv_at hl 3 rfl) ?_
    refine zr_aload_n (r := r0) hx hb dJ9_vectorizedHashCode_91 rfl (lv_at hl 0 rfl) ?_
    obtain ⟨hca, hw⟩ := hw
    refine zw_castA (r := r0) (ty := .byte) hk hH 2 q1687 rfl (fun _ _ h => h) hca dJ9_vectorizedHashCode_92 ?_
    refine lv_iload_n hx hb dJ9_vectorizedHashCode_95 rfl (lv_at hl 1 rfl) ?_
    refine lv_iload_n hx hb dJ9_vectorizedHashCode_96 rfl (lv_at hl 2 rfl) ?_
    obtain ⟨hcl, hsl, hw⟩ := hw
    refine zr_calli (zr_runS (As := [.int x3, va_rf r0, .int x1, .int x2]) hk hH hz hS hl.1 hw (va_cwS 4 hts (lw_S q1711 q1712 q142 q1713) rfl rfl rfl (by decide +kernel) (z_room (Nat.le_of_ble_eq_true rfl))) rfl rfl (Nat.le_of_ble_eq_true rfl) dJ9_vectorizedHashCode_97 ⟨hcl, hsl⟩) hS (fun x_20 hp_18 nx_19 hw H locs hH hz hS => ?_)
    refine lv_goto (tgt := 157) hx hb dJ9_vectorizedHashCode_100 (by decide) ?_
    exact hJ_157 x_20 hp_18 nx_19 0 0 _ _ _ hw hl hH hz hS
  by_cases hc5 : x4 = (9 : Int32)
  · have hw := hw.2.2.2.2.2.1 hc5
    refine lv_tableIn (tgt := 103) hx hb dJ9_vectorizedHashCode_2 (by rw [hc5]; decide) (by rw [hc5]; decide) (by rw [hc5]; rfl) (by decide) ?_
    refine lv_iload_n hx hb dJ9_vectorizedHashCode_103 rfl (lv_at hl 3 rfl) ?_
    refine zr_aload_n (r := r0) hx hb dJ9_vectorizedHashCode_104 rfl (lv_at hl 0 rfl) ?_
    exact hw.elim
  by_cases hc6 : x4 = (10 : Int32)
  · have hw := hw.2.2.2.2.2.2.1 hc6
    refine lv_tableIn (tgt := 116) hx hb dJ9_vectorizedHashCode_2 (by rw [hc6]; decide) (by rw [hc6]; decide) (by rw [hc6]; rfl) (by decide) ?_
    refine lv_iload_n hx hb dJ9_vectorizedHashCode_116 rfl (lv_at hl 3 rfl) ?_
    refine zr_aload_n (r := r0) hx hb dJ9_vectorizedHashCode_117 rfl (lv_at hl 0 rfl) ?_
    obtain ⟨hca, hw⟩ := hw
    refine zw_castA (r := r0) (ty := .int) hk hH 0 q1718 rfl (fun _ _ h => h) hca dJ9_vectorizedHashCode_118 ?_
    refine lv_iload_n hx hb dJ9_vectorizedHashCode_121 rfl (lv_at hl 1 rfl) ?_
    refine lv_iload_n hx hb dJ9_vectorizedHashCode_122 rfl (lv_at hl 2 rfl) ?_
    obtain ⟨hcl, hsl, hw⟩ := hw
    refine zr_calli (zr_runS (As := [.int x3, va_rf r0, .int x1, .int x2]) hk hH hz hS hl.1 hw (va_cwS 4 hts (lw_S q1719 q1720 q142 q1721) rfl rfl rfl (by decide +kernel) (z_room (Nat.le_of_ble_eq_true rfl))) rfl rfl (Nat.le_of_ble_eq_true rfl) dJ9_vectorizedHashCode_123 ⟨hcl, hsl⟩) hS (fun x_26 hp_24 nx_25 hw H locs hH hz hS => ?_)
    refine lv_goto (tgt := 157) hx hb dJ9_vectorizedHashCode_126 (by decide) ?_
    exact hJ_157 x_26 hp_24 nx_25 0 0 _ _ _ hw hl hH hz hS
  have hw := hw.2.2.2.2.2.2.2 ⟨hc0, hc1, hc2, hc3, hc4, hc5, hc6⟩
  refine lv_tableOut (tgt := 129) hx hb dJ9_vectorizedHashCode_2 (by have h0 := lv_neT hc0 (a := 4) (by decide); have h1 := lv_neT hc1 (a := 5) (by decide); have h2 := lv_neT hc2 (a := 6) (by decide); have h3 := lv_neT hc3 (a := 7) (by decide); have h4 := lv_neT hc4 (a := 8) (by decide); have h5 := lv_neT hc5 (a := 9) (by decide); have h6 := lv_neT hc6 (a := 10) (by decide); omega) (by decide) ?_
  exact hw.elim
