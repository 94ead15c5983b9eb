set_option maxRecDepth 100000
def wv_X3_bits (l : Launch) (g : zG) (d : Nat) (mc ms : Nat) (h0 : Nat) (x1 : Int32) (hp : zHp) (nx : Nat) (Post : Int64 → zHp → Nat → Prop) (PostX : Nat → zHp → Nat → Prop) : Prop :=
  (zgR hp (some h0) [3] 0 fun r_4 =>
  (zIA g hp r_4 2 fun x_5 =>
  (∃ P_82 : UInt64 → zHp → Nat → Nat → Nat → Prop, (∀ (x_6 : UInt64) (hp_7 : zHp) (nx_8 : Nat) (kc_9 : Nat) (ks_10 : Nat), P_82 x_6 hp_7 nx_8 kc_9 ks_10 →
  (∃ P_98 : UInt64 → Int64 → zHp → Nat → Nat → Nat → Prop, (∀ (x_11 : UInt64) (x_12 : Int64) (hp_13 : zHp) (nx_14 : Nat) (kc_15 : Nat) (ks_16 : Nat), P_98 x_11 x_12 hp_13 nx_14 kc_15 ks_16 →
  (kc_15 ≤ mc ∧ ks_16 ≤ ms ∧ Post x_12 hp_13 nx_14)) ∧
  (((Op.cmpValue (FP.dcmp x_6 x_6) .l) = 0 →
  (kc_9 ≤ mc ∧ ks_10 ≤ ms ∧ zMt l g yJ23_doubleToLongBits cJ23_doubleToLongBits 2 (some .long) d 0 0 [.double x_6] hp_7 nx_8 (zQl g fun x_19 hp_17 nx_18 =>
  P_98 x_6 x_19 hp_17 nx_18 kc_9 ks_10))) ∧
  (¬ (Op.cmpValue (FP.dcmp x_6 x_6) .l) = 0 →
  P_98 x_6 (-1 : Int64) hp_7 nx_8 kc_9 ks_10)))) ∧
  ((x_5 = 0 →
  (zgR hp (some h0) [3] 0 fun r_23 =>
  (zIA g hp r_23 0 fun x_24 =>
  ((x_24 = 0 →
  (zgR hp (some h0) [3] 0 fun r_28 =>
  (zIA g hp r_28 5 fun x_29 =>
  ((x_29 = 0 →
  (zgR hp (some h0) [3] 0 fun r_33 =>
  (zCA (g.2.1 1) hp r_33 ∧ (zaD (g.2.1 1) hp r_33 fun a_34 n_35 f_36 => ((vp_in x1 n_35 → ∀ x_37 : UInt64, x_37 = f_36 x1.toNatClampNeg →
  P_82 x_37 hp nx 0 0) ∧ (¬ vp_in x1 n_35 → n_35 < 2147483648 ∧ (l.stackTraces = false ∧ 160 ≤ d ∧ (0 + 3) ≤ mc ∧ (0 + 222) ≤ ms ∧ ∀ q_38 nx_39 : Nat, nx ≤ nx_39 →
  PostX q_38 hp nx_39))))))) ∧
  (¬ x_29 = 0 →
  (zgR hp (some h0) [3] 0 fun r_43 =>
  (zCA (g.2.1 5) hp r_43 ∧ (zaF (g.2.1 5) hp r_43 fun a_44 n_45 f_46 => ((vp_in x1 n_45 → ∀ x_47 : UInt32, x_47 = f_46 x1.toNatClampNeg →
  (vf_n64 (FP.f2d x_47) ∧ (∀ x_48 : UInt64, x_48 = FP.f2d x_47 →
  P_82 x_48 hp nx 0 0))) ∧ (¬ vp_in x1 n_45 → n_45 < 2147483648 ∧ (l.stackTraces = false ∧ 160 ≤ d ∧ (0 + 3) ≤ mc ∧ (0 + 222) ≤ ms ∧ ∀ q_49 nx_50 : Nat, nx ≤ nx_50 →
  PostX q_49 hp nx_50))))))))))) ∧
  (¬ x_24 = 0 →
  (zgR hp (some h0) [3] 0 fun r_54 =>
  (zCA (g.2.1 0) hp r_54 ∧ (zaI (g.2.1 0) hp r_54 fun a_55 n_56 f_57 => ((vp_in x1 n_56 → ∀ x_58 : Int32, x_58 = f_57 x1.toNatClampNeg →
  (∀ x_59 : UInt64, x_59 = FP.i2d x_58 →
  P_82 x_59 hp nx 0 0)) ∧ (¬ vp_in x1 n_56 → n_56 < 2147483648 ∧ (l.stackTraces = false ∧ 160 ≤ d ∧ (0 + 3) ≤ mc ∧ (0 + 222) ≤ ms ∧ ∀ q_60 nx_61 : Nat, nx ≤ nx_61 →
  PostX q_60 hp nx_61))))))))))) ∧
  (¬ x_5 = 0 →
  (zgR hp (some h0) [3] 0 fun r_65 =>
  (zCA (g.2.1 2) hp r_65 ∧ (zaI (g.2.1 2) hp r_65 fun a_66 n_67 f_68 => ((vp_in x1 n_67 → ∀ x_69 : Int32, x_69 = f_68 x1.toNatClampNeg →
  (∀ x_70 : UInt64, x_70 = FP.i2d x_69 →
  P_82 x_70 hp nx 0 0)) ∧ (¬ vp_in x1 n_67 → n_67 < 2147483648 ∧ (l.stackTraces = false ∧ 160 ≤ d ∧ (0 + 3) ≤ mc ∧ (0 + 222) ≤ ms ∧ ∀ q_71 nx_72 : Nat, nx ≤ nx_72 →
  PostX q_71 hp nx_72)))))))))))
set_option maxHeartbeats 40000000 in
theorem mv_X3_bits {l : Launch} {g : zG} {d : Nat} {mc ms : Nat} {h0 : Nat} {x1 : Int32} {hp : zHp} {nx : Nat} {Post : Int64 → zHp → Nat → Prop} {PostX : Nat → zHp → Nat → Prop} (hw : wv_X3_bits l g d mc ms h0 x1 hp nx Post PostX) : zMx l g yX3_bits cX3_bits 4 (some .long) (d + 1) mc ms [.ref h0, .int x1] hp nx (zQl g Post) "java/lang/ArrayIndexOutOfBoundsException" PostX := by
  refine zy_start (by decide) (Nat.le_of_ble_eq_true rfl) ?_
  intro p e s m below meth c hk hr hin htb hH hz ls hl
  have hx := hk.1.1
  have hb := hk.1.2.1
  have hown := hk.1.2.2.2.1
  have hts := hk.1.2.2.2.2
  have hS : va_S (zAd g) s.heap s.heap [] := va_S.rf
  have hl : lv_has ls 4 [(0, va_rf (some h0)), (1, .int x1)] := hl
  unfold wv_X3_bits at hw
  refine zr_aload_n (r := some h0) hx hb dX3_bits_0 rfl (lv_at hl 0 rfl) ?_
  obtain ⟨a_1, ci_2, fs_3, r_4, er, he, hc, hv, hw⟩ := zgR_e hw
  refine zw_get hk hH er he hv (fk_X3_9 hc) dX3_bits_1 ?_
  refine zw_instA (r := r_4) hk hH 2 (by decide) q2625 hw dX3_bits_4 (fun x_5 hw => ?_)
  obtain ⟨P_82, hP_82, hw⟩ := hw
  have hJ_82 : ∀ (x_6 : UInt64) (hp_7 : zHp) (nx_8 : Nat) (kc_9 : Nat) (ks_10 : Nat) (H : Heap) (locs : List Loc) (ls : Array Slot), P_82 x_6 hp_7 nx_8 kc_9 ks_10 → lv_has ls 4 [(0, va_rf (some h0)), (1, .int x1), (2, .double x_6)] → zHd g hp_7 H → H.size = nx_8 → va_S (zAd g) s.heap H locs → W p l e (zrm (d + 1) mc ms) s m ([.ref h0, .int x1] : List Value).toArray below meth c H locs kc_9 ks_10 (vy_MQ below (zQl g Post) (zXC g "java/lang/ArrayIndexOutOfBoundsException" PostX) ([.ref h0, .int x1] : List Value).toArray s mc ms (zAd g)) (F0 m 82 ls []) := by
    intro x_6 hp_7 nx_8 kc_9 ks_10 H locs ls hw hl hH hz hS
    have hw := hP_82 x_6 hp_7 nx_8 kc_9 ks_10 hw
    refine lv_dload_n hx hb dX3_bits_82 rfl (lv_at hl 2 rfl) ?_
    refine lv_dload_n hx hb dX3_bits_83 rfl (lv_at hl 2 rfl) ?_
    refine lv_dcmp hx hb dX3_bits_84 ?_
    obtain ⟨P_98, hP_98, hw⟩ := hw
    have hJ_98 : ∀ (x_11 : UInt64) (x_12 : Int64) (hp_13 : zHp) (nx_14 : Nat) (kc_15 : Nat) (ks_16 : Nat) (H : Heap) (locs : List Loc) (ls : Array Slot), P_98 x_11 x_12 hp_13 nx_14 kc_15 ks_16 → lv_has ls 4 [(0, va_rf (some h0)), (1, .int x1), (2, .double x_11)] → zHd g hp_13 H → H.size = nx_14 → va_S (zAd g) s.heap H locs → W p l e (zrm (d + 1) mc ms) s m ([.ref h0, .int x1] : List Value).toArray below meth c H locs kc_15 ks_16 (vy_MQ below (zQl g Post) (zXC g "java/lang/ArrayIndexOutOfBoundsException" PostX) ([.ref h0, .int x1] : List Value).toArray s mc ms (zAd g)) (F0 m 98 ls [.long x_12]) := by
      intro x_11 x_12 hp_13 nx_14 kc_15 ks_16 H locs ls hw hl hH hz hS
      have hw := hP_98 x_11 x_12 hp_13 nx_14 kc_15 ks_16 hw
      obtain ⟨hkc, hks, hw⟩ := hw
      exact vy_ret (zr_lret hk hr hH hz hS hw hkc hks dX3_bits_98)
    refine lv_if_eq (tgt := 94) hx hb dX3_bits_85 (by decide) (fun hc => ?_) (fun hc => ?_)
    · have hw := hw.1 hc
      refine lv_dload_n hx hb dX3_bits_94 rfl (lv_at hl 2 rfl) ?_
      obtain ⟨hcl, hsl, hw⟩ := hw
      refine zr_calll (zr_runS (As := [.double x_6]) hk hH hz hS hl.1 hw (va_cwS 1 hts (lw_S q2640 q2301 q168 q2302) rfl rfl rfl (by decide +kernel) (z_room (Nat.le_of_ble_eq_true rfl))) rfl rfl (Nat.le_of_ble_eq_true rfl) dX3_bits_95 ⟨hcl, hsl⟩) hS (fun x_19 hp_17 nx_18 hw H locs hH hz hS => ?_)
      exact hJ_98 x_6 x_19 hp_17 nx_18 kc_9 ks_10 _ _ _ hw hl hH hz hS
    · have hw := hw.2 hc
      refine lv_ldc2 hx hb hown (hts _ q2639) dX3_bits_88 ?_
      refine lv_goto (tgt := 98) hx hb dX3_bits_91 (by decide) ?_
      exact hJ_98 x_6 (-1 : Int64) hp_7 nx_8 kc_9 ks_10 _ _ _ hw hl hH hz hS
  refine lv_if_eq (tgt := 24) hx hb dX3_bits_7 (by decide) (fun hc => ?_) (fun hc => ?_)
  · have hw := hw.1 hc
    refine zr_aload_n (r := some h0) hx hb dX3_bits_24 rfl (lv_at hl 0 rfl) ?_
    obtain ⟨a_20, ci_21, fs_22, r_23, er, he, hc, hv, hw⟩ := zgR_e hw
    refine zw_get hk hH er he hv (fk_X3_9 hc) dX3_bits_25 ?_
    refine zw_instA (r := r_23) hk hH 0 (by decide) q2626 hw dX3_bits_28 (fun x_24 hw => ?_)
    refine lv_if_eq (tgt := 48) hx hb dX3_bits_31 (by decide) (fun hc => ?_) (fun hc => ?_)
    · have hw := hw.1 hc
      refine zr_aload_n (r := some h0) hx hb dX3_bits_48 rfl (lv_at hl 0 rfl) ?_
      obtain ⟨a_25, ci_26, fs_27, r_28, er, he, hc, hv, hw⟩ := zgR_e hw
      refine zw_get hk hH er he hv (fk_X3_9 hc) dX3_bits_49 ?_
      refine zw_instA (r := r_28) hk hH 5 (by decide) q2627 hw dX3_bits_52 (fun x_29 hw => ?_)
      refine lv_if_eq (tgt := 72) hx hb dX3_bits_55 (by decide) (fun hc => ?_) (fun hc => ?_)
      · have hw := hw.1 hc
        refine zr_aload_n (r := some h0) hx hb dX3_bits_72 rfl (lv_at hl 0 rfl) ?_
        obtain ⟨a_30, ci_31, fs_32, r_33, er, he, hc, hv, hw⟩ := zgR_e hw
        refine zw_get hk hH er he hv (fk_X3_9 hc) dX3_bits_73 ?_
        obtain ⟨hca, hw⟩ := hw
        refine zw_castA (r := r_33) (ty := .double) hk hH 1 q2629 rfl (fun _ _ h => h) hca dX3_bits_76 ?_
        refine lv_iload_n hx hb dX3_bits_79 rfl (lv_at hl 1 rfl) ?_
        obtain ⟨a_34, n_35, f_36, er, he, hw⟩ := zaD_e hw
        by_cases hi : vp_in x1 n_35
        · have hw := hw.1 hi
          have hw := hw _ rfl
          refine zw_dald hk hH er he hi dX3_bits_80 ?_
          generalize f_36 x1.toNatClampNeg = x_37 at hw ⊢
          refine lv_dstore_n (i := 2) (lv' := [(2, .double x_37), (0, va_rf (some h0)), (1, .int x1)]) hx hb dX3_bits_81 rfl hl (by decide) (by first | rfl | simp [List.filter_cons, z_cat, z_catI, z_catJ, z_catF, z_catD]) (fun ls hl => ?_)
          exact hJ_82 x_37 hp nx 0 0 _ _ _ hw (lv_sub hl [1, 2, 0] rfl) hH hz hS
        · obtain ⟨hnn, hw⟩ := hw.2 hi
          obtain ⟨hT, h160, hkc, hks, hw⟩ := hw
          refine zv_dald (f := f_36) hk hT h160 hH hz hS hl.1 er he hi hnn hkc hks (by first | exact Nat.le_of_ble_eq_true rfl | (simp only [List.map_cons, List.map_nil, z_cat]; exact Nat.le_of_ble_eq_true rfl)) dX3_bits_80 (fun H q_38 nx_39 hle hH hz hS hq => ?_)
          have hw := hw q_38 nx_39 hle
          exact zy_out hk hH hz hS htb hq hw hkc hks
      · have hw := hw.2 hc
        refine zr_aload_n (r := some h0) hx hb dX3_bits_58 rfl (lv_at hl 0 rfl) ?_
        obtain ⟨a_40, ci_41, fs_42, r_43, er, he, hc, hv, hw⟩ := zgR_e hw
        refine zw_get hk hH er he hv (fk_X3_9 hc) dX3_bits_59 ?_
        obtain ⟨hca, hw⟩ := hw
        refine zw_castA (r := r_43) (ty := .float) hk hH 5 q2627 rfl (fun _ _ h => h) hca dX3_bits_62 ?_
        refine lv_iload_n hx hb dX3_bits_65 rfl (lv_at hl 1 rfl) ?_
        obtain ⟨a_44, n_45, f_46, er, he, hw⟩ := zaF_e hw
        by_cases hi : vp_in x1 n_45
        · have hw := hw.1 hi
          have hw := hw _ rfl
          refine zw_fald hk hH er he hi dX3_bits_66 ?_
          generalize f_46 x1.toNatClampNeg = x_47 at hw ⊢
          obtain ⟨hne, hw⟩ := hw
          refine lv_f2d hx hb dX3_bits_67 hne ?_
          refine lv_topd (fun x_48 ex_48 => ?_)
          have hw := hw x_48 ex_48
          refine lv_dstore_n (i := 2) (lv' := [(2, .double x_48), (0, va_rf (some h0)), (1, .int x1)]) hx hb dX3_bits_68 rfl hl (by decide) (by first | rfl | simp [List.filter_cons, z_cat, z_catI, z_catJ, z_catF, z_catD]) (fun ls hl => ?_)
          refine lv_goto (tgt := 82) hx hb dX3_bits_69 (by decide) ?_
          exact hJ_82 x_48 hp nx 0 0 _ _ _ hw (lv_sub hl [1, 2, 0] rfl) hH hz hS
        · obtain ⟨hnn, hw⟩ := hw.2 hi
          obtain ⟨hT, h160, hkc, hks, hw⟩ := hw
          refine zv_fald (f := f_46) hk hT h160 hH hz hS hl.1 er he hi hnn hkc hks (by first | exact Nat.le_of_ble_eq_true rfl | (simp only [List.map_cons, List.map_nil, z_cat]; exact Nat.le_of_ble_eq_true rfl)) dX3_bits_66 (fun H q_49 nx_50 hle hH hz hS hq => ?_)
          have hw := hw q_49 nx_50 hle
          exact zy_out hk hH hz hS htb hq hw hkc hks
    · have hw := hw.2 hc
      refine zr_aload_n (r := some h0) hx hb dX3_bits_34 rfl (lv_at hl 0 rfl) ?_
      obtain ⟨a_51, ci_52, fs_53, r_54, er, he, hc, hv, hw⟩ := zgR_e hw
      refine zw_get hk hH er he hv (fk_X3_9 hc) dX3_bits_35 ?_
      obtain ⟨hca, hw⟩ := hw
      refine zw_castA (r := r_54) (ty := .int) hk hH 0 q2626 rfl (fun _ _ h => h) hca dX3_bits_38 ?_
      refine lv_iload_n hx hb dX3_bits_41 rfl (lv_at hl 1 rfl) ?_
      obtain ⟨a_55, n_56, f_57, er, he, hw⟩ := zaI_e hw
      by_cases hi : vp_in x1 n_56
      · have hw := hw.1 hi
        have hw := hw _ rfl
        refine zw_iald hk hH er he hi dX3_bits_42 ?_
        generalize f_57 x1.toNatClampNeg = x_58 at hw ⊢
        refine lv_i2d hx hb dX3_bits_43 ?_
        refine lv_topd (fun x_59 ex_59 => ?_)
        have hw := hw x_59 ex_59
        refine lv_dstore_n (i := 2) (lv' := [(2, .double x_59), (0, va_rf (some h0)), (1, .int x1)]) hx hb dX3_bits_44 rfl hl (by decide) (by first | rfl | simp [List.filter_cons, z_cat, z_catI, z_catJ, z_catF, z_catD]) (fun ls hl => ?_)
        refine lv_goto (tgt := 82) hx hb dX3_bits_45 (by decide) ?_
        exact hJ_82 x_59 hp nx 0 0 _ _ _ hw (lv_sub hl [1, 2, 0] rfl) hH hz hS
      · obtain ⟨hnn, hw⟩ := hw.2 hi
        obtain ⟨hT, h160, hkc, hks, hw⟩ := hw
        refine zv_iald (f := f_57) hk hT h160 hH hz hS hl.1 er he hi hnn hkc hks (by first | exact Nat.le_of_ble_eq_true rfl | (simp only [List.map_cons, List.map_nil, z_cat]; exact Nat.le_of_ble_eq_true rfl)) dX3_bits_42 (fun H q_60 nx_61 hle hH hz hS hq => ?_)
        have hw := hw q_60 nx_61 hle
        exact zy_out hk hH hz hS htb hq hw hkc hks
  · have hw := hw.2 hc
    refine zr_aload_n (r := some h0) hx hb dX3_bits_10 rfl (lv_at hl 0 rfl) ?_
    obtain ⟨a_62, ci_63, fs_64, r_65, er, he, hc, hv, hw⟩ := zgR_e hw
    refine zw_get hk hH er he hv (fk_X3_9 hc) dX3_bits_11 ?_
    obtain ⟨hca, hw⟩ := hw
    refine zw_castA (r := r_65) (ty := .byte) hk hH 2 q2625 rfl (fun _ _ h => h) hca dX3_bits_14 ?_
    refine lv_iload_n hx hb dX3_bits_17 rfl (lv_at hl 1 rfl) ?_
    obtain ⟨a_66, n_67, f_68, er, he, hw⟩ := zaI_e hw
    by_cases hi : vp_in x1 n_67
    · have hw := hw.1 hi
      have hw := hw _ rfl
      refine zw_bald hk hH er he hi dX3_bits_18 ?_
      generalize f_68 x1.toNatClampNeg = x_69 at hw ⊢
      refine lv_i2d hx hb dX3_bits_19 ?_
      refine lv_topd (fun x_70 ex_70 => ?_)
      have hw := hw x_70 ex_70
      refine lv_dstore_n (i := 2) (lv' := [(2, .double x_70), (0, va_rf (some h0)), (1, .int x1)]) hx hb dX3_bits_20 rfl hl (by decide) (by first | rfl | simp [List.filter_cons, z_cat, z_catI, z_catJ, z_catF, z_catD]) (fun ls hl => ?_)
      refine lv_goto (tgt := 82) hx hb dX3_bits_21 (by decide) ?_
      exact hJ_82 x_70 hp nx 0 0 _ _ _ hw (lv_sub hl [1, 2, 0] rfl) hH hz hS
    · obtain ⟨hnn, hw⟩ := hw.2 hi
      obtain ⟨hT, h160, hkc, hks, hw⟩ := hw
      refine zv_bald (f := f_68) hk hT h160 hH hz hS hl.1 er he hi hnn hkc hks (by first | exact Nat.le_of_ble_eq_true rfl | (simp only [List.map_cons, List.map_nil, z_cat]; exact Nat.le_of_ble_eq_true rfl)) dX3_bits_18 (fun H q_71 nx_72 hle hH hz hS hq => ?_)
      have hw := hw q_71 nx_72 hle
      exact zy_out hk hH hz hS htb hq hw hkc hks
def wv_X3_puts (l : Launch) (g : zG) (d : Nat) (mc ms : Nat) (h0 : Nat) (x1 : Int32) (x2 : Int32) (hp : zHp) (nx : Nat) (Post : zHp → Nat → Prop) (PostX : Nat → zHp → Nat → Prop) : Prop :=
  (zgR hp (some h0) [3] 0 fun r_4 =>
  (zIA g hp r_4 2 fun x_5 =>
  (∃ P_91 : zHp → Nat → Nat → Nat → Prop, (∀ (hp_6 : zHp) (nx_7 : Nat) (kc_8 : Nat) (ks_9 : Nat), P_91 hp_6 nx_7 kc_8 ks_9 →
  (kc_8 ≤ mc ∧ ks_9 ≤ ms ∧ Post hp_6 nx_7)) ∧
  ((x_5 = 0 →
  (zgR hp (some h0) [3] 0 fun r_13 =>
  (zIA g hp r_13 0 fun x_14 =>
  ((x_14 = 0 →
  (zgR hp (some h0) [3] 0 fun r_18 =>
  (zIA g hp r_18 5 fun x_19 =>
  ((x_19 = 0 →
  (zgR hp (some h0) [3] 0 fun r_23 =>
  (zCA (g.2.1 1) hp r_23 ∧ (vf_n64 (FP.ddiv (FP.i2d x2) (4620693217682128896 : UInt64)) ∧ (zaD (g.2.1 1) hp r_23 fun a_24 n_25 f_26 => ((vp_in x1 n_25 → zB g ≤ a_24 ∧ ∀ hp_27 : zHp, hp_27 = va_up hp a_24 (some (.inl (g.2.1 1, n_25, .inr (.inr (.inr (.inl (va_up f_26 x1.toNatClampNeg (FP.ddiv (FP.i2d x2) (4620693217682128896 : UInt64))))))))) →
  P_91 hp_27 nx 0 0) ∧ (¬ vp_in x1 n_25 → n_25 < 2147483648 ∧ (l.stackTraces = false ∧ 160 ≤ d ∧ (0 + 3) ≤ mc ∧ (0 + 222) ≤ ms ∧ ∀ q_28 nx_29 : Nat, nx ≤ nx_29 →
  PostX q_28 hp nx_29)))))))) ∧
  (¬ x_19 = 0 →
  (zgR hp (some h0) [3] 0 fun r_33 =>
  (zCA (g.2.1 5) hp r_33 ∧ (vf_n64 (FP.ddiv (FP.i2d x2) (4620693217682128896 : UInt64)) ∧ (vf_n32 (FP.d2f (FP.ddiv (FP.i2d x2) (4620693217682128896 : UInt64))) ∧ (zaF (g.2.1 5) hp r_33 fun a_34 n_35 f_36 => ((vp_in x1 n_35 → zB g ≤ a_34 ∧ ∀ hp_37 : zHp, hp_37 = va_up hp a_34 (some (.inl (g.2.1 5, n_35, .inr (.inr (.inl (va_up f_36 x1.toNatClampNeg (FP.d2f (FP.ddiv (FP.i2d x2) (4620693217682128896 : UInt64))))))))) →
  P_91 hp_37 nx 0 0) ∧ (¬ vp_in x1 n_35 → n_35 < 2147483648 ∧ (l.stackTraces = false ∧ 160 ≤ d ∧ (0 + 3) ≤ mc ∧ (0 + 222) ≤ ms ∧ ∀ q_38 nx_39 : Nat, nx ≤ nx_39 →
  PostX q_38 hp nx_39))))))))))))) ∧
  (¬ x_14 = 0 →
  (zgR hp (some h0) [3] 0 fun r_43 =>
  (zCA (g.2.1 0) hp r_43 ∧ (zaI (g.2.1 0) hp r_43 fun a_44 n_45 f_46 => ((vp_in x1 n_45 → zB g ≤ a_44 ∧ ∀ hp_47 : zHp, hp_47 = va_up hp a_44 (some (.inl (g.2.1 0, n_45, .inl (va_up f_46 x1.toNatClampNeg x2)))) →
  P_91 hp_47 nx 0 0) ∧ (¬ vp_in x1 n_45 → n_45 < 2147483648 ∧ (l.stackTraces = false ∧ 160 ≤ d ∧ (0 + 3) ≤ mc ∧ (0 + 222) ≤ ms ∧ ∀ q_48 nx_49 : Nat, nx ≤ nx_49 →
  PostX q_48 hp nx_49))))))))))) ∧
  (¬ x_5 = 0 →
  (zgR hp (some h0) [3] 0 fun r_53 =>
  (zCA (g.2.1 2) hp r_53 ∧ (zaI (g.2.1 2) hp r_53 fun a_54 n_55 f_56 => ((vp_in x1 n_55 → zB g ≤ a_54 ∧ ∀ hp_57 : zHp, hp_57 = va_up hp a_54 (some (.inl (g.2.1 2, n_55, .inl (va_up f_56 x1.toNatClampNeg (vp_nar .byte x2.toInt8.toInt32))))) →
  P_91 hp_57 nx 0 0) ∧ (¬ vp_in x1 n_55 → n_55 < 2147483648 ∧ (l.stackTraces = false ∧ 160 ≤ d ∧ (0 + 3) ≤ mc ∧ (0 + 222) ≤ ms ∧ ∀ q_58 nx_59 : Nat, nx ≤ nx_59 →
  PostX q_58 hp nx_59)))))))))))
set_option maxHeartbeats 40000000 in
theorem mv_X3_puts {l : Launch} {g : zG} {d : Nat} {mc ms : Nat} {h0 : Nat} {x1 : Int32} {x2 : Int32} {hp : zHp} {nx : Nat} {Post : zHp → Nat → Prop} {PostX : Nat → zHp → Nat → Prop} (hw : wv_X3_puts l g d mc ms h0 x1 x2 hp nx Post PostX) : zMx l g yX3_puts cX3_puts 3 none (d + 1) mc ms [.ref h0, .int x1, .int x2] hp nx (zQv g Post) "java/lang/ArrayIndexOutOfBoundsException" PostX := by
  refine zy_start (by decide) (Nat.le_of_ble_eq_true rfl) ?_
  intro p e s m below meth c hk hr hin htb hH hz ls hl
  have hx := hk.1.1
  have hb := hk.1.2.1
  have hown := hk.1.2.2.2.1
  have hts := hk.1.2.2.2.2
  have hS : va_S (zAd g) s.heap s.heap [] := va_S.rf
  have hl : lv_has ls 3 [(0, va_rf (some h0)), (1, .int x1), (2, .int x2)] := hl
  unfold wv_X3_puts at hw
  refine zr_aload_n (r := some h0) hx hb dX3_puts_0 rfl (lv_at hl 0 rfl) ?_
  obtain ⟨a_1, ci_2, fs_3, r_4, er, he, hc, hv, hw⟩ := zgR_e hw
  refine zw_get hk hH er he hv (fk_X3_9 hc) dX3_puts_1 ?_
  refine zw_instA (r := r_4) hk hH 2 (by decide) q2625 hw dX3_puts_4 (fun x_5 hw => ?_)
  obtain ⟨P_91, hP_91, hw⟩ := hw
  have hJ_91 : ∀ (hp_6 : zHp) (nx_7 : Nat) (kc_8 : Nat) (ks_9 : Nat) (H : Heap) (locs : List Loc) (ls : Array Slot), P_91 hp_6 nx_7 kc_8 ks_9 → lv_has ls 3 [(0, va_rf (some h0)), (1, .int x1), (2, .int x2)] → zHd g hp_6 H → H.size = nx_7 → va_S (zAd g) s.heap H locs → W p l e (zrm (d + 1) mc ms) s m ([.ref h0, .int x1, .int x2] : List Value).toArray below meth c H locs kc_8 ks_9 (vy_MQ below (zQv g Post) (zXC g "java/lang/ArrayIndexOutOfBoundsException" PostX) ([.ref h0, .int x1, .int x2] : List Value).toArray s mc ms (zAd g)) (F0 m 91 ls []) := by
    intro hp_6 nx_7 kc_8 ks_9 H locs ls hw hl hH hz hS
    have hw := hP_91 hp_6 nx_7 kc_8 ks_9 hw
    obtain ⟨hkc, hks, hw⟩ := hw
    exact vy_ret (zr_vret hk hr hH hz hS hw hkc hks dX3_puts_91)
  refine lv_if_eq (tgt := 24) hx hb dX3_puts_7 (by decide) (fun hc => ?_) (fun hc => ?_)
  · have hw := hw.1 hc
    refine zr_aload_n (r := some h0) hx hb dX3_puts_24 rfl (lv_at hl 0 rfl) ?_
    obtain ⟨a_10, ci_11, fs_12, r_13, er, he, hc, hv, hw⟩ := zgR_e hw
    refine zw_get hk hH er he hv (fk_X3_9 hc) dX3_puts_25 ?_
    refine zw_instA (r := r_13) hk hH 0 (by decide) q2626 hw dX3_puts_28 (fun x_14 hw => ?_)
    refine lv_if_eq (tgt := 47) hx hb dX3_puts_31 (by decide) (fun hc => ?_) (fun hc => ?_)
    · have hw := hw.1 hc
      refine zr_aload_n (r := some h0) hx hb dX3_puts_47 rfl (lv_at hl 0 rfl) ?_
      obtain ⟨a_15, ci_16, fs_17, r_18, er, he, hc, hv, hw⟩ := zgR_e hw
      refine zw_get hk hH er he hv (fk_X3_9 hc) dX3_puts_48 ?_
      refine zw_instA (r := r_18) hk hH 5 (by decide) q2627 hw dX3_puts_51 (fun x_19 hw => ?_)
      refine lv_if_eq (tgt := 76) hx hb dX3_puts_54 (by decide) (fun hc => ?_) (fun hc => ?_)
      · have hw := hw.1 hc
        refine zr_aload_n (r := some h0) hx hb dX3_puts_76 rfl (lv_at hl 0 rfl) ?_
        obtain ⟨a_20, ci_21, fs_22, r_23, er, he, hc, hv, hw⟩ := zgR_e hw
        refine zw_get hk hH er he hv (fk_X3_9 hc) dX3_puts_77 ?_
        obtain ⟨hca, hw⟩ := hw
        refine zw_castA (r := r_23) (ty := .double) hk hH 1 q2629 rfl (fun _ _ h => h) hca dX3_puts_80 ?_
        refine lv_iload_n hx hb dX3_puts_83 rfl (lv_at hl 1 rfl) ?_
        refine lv_iload_n hx hb dX3_puts_84 rfl (lv_at hl 2 rfl) ?_
        refine lv_i2d hx hb dX3_puts_85 ?_
        refine lv_ldc2d hx hb hown (hts _ q2628) dX3_puts_86 ?_
        obtain ⟨hne, hw⟩ := hw
        refine lv_ddiv hx hb dX3_puts_89 hne ?_
        obtain ⟨a_24, n_25, f_26, er, he, hw⟩ := zaD_e hw
        by_cases hi : vp_in x1 n_25
        · obtain ⟨hA, hw⟩ := hw.1 hi
          obtain ⟨hp_27, eh⟩ : ∃ y : zHp, y = va_up hp a_24 (some (.inl (g.2.1 1, n_25, .inr (.inr (.inr (.inl (va_up f_26 x1.toNatClampNeg (FP.ddiv (FP.i2d x2) (4620693217682128896 : UInt64))))))))) := ⟨_, rfl⟩
          have hw := hw hp_27 eh
          refine zw_dast hk hH hz hS er he hi hA eh dX3_puts_90 (fun H locs hH hz hS => ?_)
          exact hJ_91 hp_27 nx 0 0 _ _ _ hw hl hH hz hS
        · obtain ⟨hnn, hw⟩ := hw.2 hi
          obtain ⟨hT, h160, hkc, hks, hw⟩ := hw
          refine zv_dast (f := f_26) hk hT h160 hH hz hS hl.1 er he hi hnn hkc hks (by first | exact Nat.le_of_ble_eq_true rfl | (simp only [List.map_cons, List.map_nil, z_cat]; exact Nat.le_of_ble_eq_true rfl)) dX3_puts_90 (fun H q_28 nx_29 hle hH hz hS hq => ?_)
          have hw := hw q_28 nx_29 hle
          exact zy_out hk hH hz hS htb hq hw hkc hks
      · have hw := hw.2 hc
        refine zr_aload_n (r := some h0) hx hb dX3_puts_57 rfl (lv_at hl 0 rfl) ?_
        obtain ⟨a_30, ci_31, fs_32, r_33, er, he, hc, hv, hw⟩ := zgR_e hw
        refine zw_get hk hH er he hv (fk_X3_9 hc) dX3_puts_58 ?_
        obtain ⟨hca, hw⟩ := hw
        refine zw_castA (r := r_33) (ty := .float) hk hH 5 q2627 rfl (fun _ _ h => h) hca dX3_puts_61 ?_
        refine lv_iload_n hx hb dX3_puts_64 rfl (lv_at hl 1 rfl) ?_
        refine lv_iload_n hx hb dX3_puts_65 rfl (lv_at hl 2 rfl) ?_
        refine lv_i2d hx hb dX3_puts_66 ?_
        refine lv_ldc2d hx hb hown (hts _ q2628) dX3_puts_67 ?_
        obtain ⟨hne, hw⟩ := hw
        refine lv_ddiv hx hb dX3_puts_70 hne ?_
        obtain ⟨hne, hw⟩ := hw
        refine lv_d2f hx hb dX3_puts_71 hne ?_
        obtain ⟨a_34, n_35, f_36, er, he, hw⟩ := zaF_e hw
        by_cases hi : vp_in x1 n_35
        · obtain ⟨hA, hw⟩ := hw.1 hi
          obtain ⟨hp_37, eh⟩ : ∃ y : zHp, y = va_up hp a_34 (some (.inl (g.2.1 5, n_35, .inr (.inr (.inl (va_up f_36 x1.toNatClampNeg (FP.d2f (FP.ddiv (FP.i2d x2) (4620693217682128896 : UInt64))))))))) := ⟨_, rfl⟩
          have hw := hw hp_37 eh
          refine zw_fast hk hH hz hS er he hi hA eh dX3_puts_72 (fun H locs hH hz hS => ?_)
          refine lv_goto (tgt := 91) hx hb dX3_puts_73 (by decide) ?_
          exact hJ_91 hp_37 nx 0 0 _ _ _ hw hl hH hz hS
        · obtain ⟨hnn, hw⟩ := hw.2 hi
          obtain ⟨hT, h160, hkc, hks, hw⟩ := hw
          refine zv_fast (f := f_36) hk hT h160 hH hz hS hl.1 er he hi hnn hkc hks (by first | exact Nat.le_of_ble_eq_true rfl | (simp only [List.map_cons, List.map_nil, z_cat]; exact Nat.le_of_ble_eq_true rfl)) dX3_puts_72 (fun H q_38 nx_39 hle hH hz hS hq => ?_)
          have hw := hw q_38 nx_39 hle
          exact zy_out hk hH hz hS htb hq hw hkc hks
    · have hw := hw.2 hc
      refine zr_aload_n (r := some h0) hx hb dX3_puts_34 rfl (lv_at hl 0 rfl) ?_
      obtain ⟨a_40, ci_41, fs_42, r_43, er, he, hc, hv, hw⟩ := zgR_e hw
      refine zw_get hk hH er he hv (fk_X3_9 hc) dX3_puts_35 ?_
      obtain ⟨hca, hw⟩ := hw
      refine zw_castA (r := r_43) (ty := .int) hk hH 0 q2626 rfl (fun _ _ h => h) hca dX3_puts_38 ?_
      refine lv_iload_n hx hb dX3_puts_41 rfl (lv_at hl 1 rfl) ?_
      refine lv_iload_n hx hb dX3_puts_42 rfl (lv_at hl 2 rfl) ?_
      obtain ⟨a_44, n_45, f_46, er, he, hw⟩ := zaI_e hw
      by_cases hi : vp_in x1 n_45
      · obtain ⟨hA, hw⟩ := hw.1 hi
        obtain ⟨hp_47, eh⟩ : ∃ y : zHp, y = va_up hp a_44 (some (.inl (g.2.1 0, n_45, .inl (va_up f_46 x1.toNatClampNeg x2)))) := ⟨_, rfl⟩
        have hw := hw hp_47 eh
        refine zw_iast hk hH hz hS er he hi hA eh dX3_puts_43 (fun H locs hH hz hS => ?_)
        refine lv_goto (tgt := 91) hx hb dX3_puts_44 (by decide) ?_
        exact hJ_91 hp_47 nx 0 0 _ _ _ hw hl hH hz hS
      · obtain ⟨hnn, hw⟩ := hw.2 hi
        obtain ⟨hT, h160, hkc, hks, hw⟩ := hw
        refine zv_iast (f := f_46) hk hT h160 hH hz hS hl.1 er he hi hnn hkc hks (by first | exact Nat.le_of_ble_eq_true rfl | (simp only [List.map_cons, List.map_nil, z_cat]; exact Nat.le_of_ble_eq_true rfl)) dX3_puts_43 (fun H q_48 nx_49 hle hH hz hS hq => ?_)
        have hw := hw q_48 nx_49 hle
        exact zy_out hk hH hz hS htb hq hw hkc hks
  · have hw := hw.2 hc
    refine zr_aload_n (r := some h0) hx hb dX3_puts_10 rfl (lv_at hl 0 rfl) ?_
    obtain ⟨a_50, ci_51, fs_52, r_53, er, he, hc, hv, hw⟩ := zgR_e hw
    refine zw_get hk hH er he hv (fk_X3_9 hc) dX3_puts_11 ?_
    obtain ⟨hca, hw⟩ := hw
    refine zw_castA (r := r_53) (ty := .byte) hk hH 2 q2625 rfl (fun _ _ h => h) hca dX3_puts_14 ?_
    refine lv_iload_n hx hb dX3_puts_17 rfl (lv_at hl 1 rfl) ?_
    refine lv_iload_n hx hb dX3_puts_18 rfl (lv_at hl 2 rfl) ?_
    refine lv_i2b hx hb dX3_puts_19 rfl ?_
    obtain ⟨a_54, n_55, f_56, er, he, hw⟩ := zaI_e hw
    by_cases hi : vp_in x1 n_55
    · obtain ⟨hA, hw⟩ := hw.1 hi
      obtain ⟨hp_57, eh⟩ : ∃ y : zHp, y = va_up hp a_54 (some (.inl (g.2.1 2, n_55, .inl (va_up f_56 x1.toNatClampNeg (vp_nar .byte x2.toInt8.toInt32))))) := ⟨_, rfl⟩
      have hw := hw hp_57 eh
      refine zw_bast hk hH hz hS er he hi hA eh dX3_puts_20 (fun H locs hH hz hS => ?_)
      refine lv_goto (tgt := 91) hx hb dX3_puts_21 (by decide) ?_
      exact hJ_91 hp_57 nx 0 0 _ _ _ hw hl hH hz hS
    · obtain ⟨hnn, hw⟩ := hw.2 hi
      obtain ⟨hT, h160, hkc, hks, hw⟩ := hw
      refine zv_bast (f := f_56) hk hT h160 hH hz hS hl.1 er he hi hnn hkc hks (by first | exact Nat.le_of_ble_eq_true rfl | (simp only [List.map_cons, List.map_nil, z_cat]; exact Nat.le_of_ble_eq_true rfl)) dX3_puts_20 (fun H q_58 nx_59 hle hH hz hS hq => ?_)
      have hw := hw q_58 nx_59 hle
      exact zy_out hk hH hz hS htb hq hw hkc hks
def wv_X0_things (l : Launch) (g : zG) (d : Nat) (mc ms : Nat) (x0 : Int32) (x1 : Int32) (hp : zHp) (nx : Nat) (Post : Option Nat → zHp → Nat → Prop) (PostX : Nat → zHp → Nat → Prop) : Prop :=
  ((x0 = (0 : Int32) →
  ((¬ x1 < 0 → (zna g mc ms hp nx 0 0 2 x1 (.inl (fun _ => 0)) fun hp_1 =>
  ∀ nx_2 kc_3 ks_4 : Nat, nx_2 = (nx + 1) → kc_3 = (0 + 1) → ks_4 = (0 + x1.toNatClampNeg) →
  (kc_3 ≤ mc ∧ ks_4 ≤ ms ∧ Post (some nx) hp_1 nx_2))) ∧ (x1 < 0 → (l.stackTraces = false ∧ 160 ≤ d ∧ (0 + 3) ≤ mc ∧ (0 + 222) ≤ ms ∧ ∀ q_5 nx_6 : Nat, nx ≤ nx_6 →
  PostX q_5 hp nx_6)))) ∧
  (x0 = (1 : Int32) →
  ((¬ x1 < 0 → (zna g mc ms hp nx 0 0 0 x1 (.inl (fun _ => 0)) fun hp_7 =>
  ∀ nx_8 kc_9 ks_10 : Nat, nx_8 = (nx + 1) → kc_9 = (0 + 1) → ks_10 = (0 + x1.toNatClampNeg) →
  (kc_9 ≤ mc ∧ ks_10 ≤ ms ∧ Post (some nx) hp_7 nx_8))) ∧ (x1 < 0 → (l.stackTraces = false ∧ 160 ≤ d ∧ (0 + 3) ≤ mc ∧ (0 + 222) ≤ ms ∧ ∀ q_11 nx_12 : Nat, nx ≤ nx_12 →
  PostX q_11 hp nx_12)))) ∧
  (x0 = (2 : Int32) →
  ((¬ x1 < 0 → (zna g mc ms hp nx 0 0 5 x1 (.inr (.inr (.inl (fun _ => 0)))) fun hp_13 =>
  ∀ nx_14 kc_15 ks_16 : Nat, nx_14 = (nx + 1) → kc_15 = (0 + 1) → ks_16 = (0 + x1.toNatClampNeg) →
  (kc_15 ≤ mc ∧ ks_16 ≤ ms ∧ Post (some nx) hp_13 nx_14))) ∧ (x1 < 0 → (l.stackTraces = false ∧ 160 ≤ d ∧ (0 + 3) ≤ mc ∧ (0 + 222) ≤ ms ∧ ∀ q_17 nx_18 : Nat, nx ≤ nx_18 →
  PostX q_17 hp nx_18)))) ∧
  (¬ x0 = (0 : Int32) ∧ ¬ x0 = (1 : Int32) ∧ ¬ x0 = (2 : Int32) →
  ((¬ x1 < 0 → (zna g mc ms hp nx 0 0 1 x1 (.inr (.inr (.inr (.inl (fun _ => 0))))) fun hp_19 =>
  ∀ nx_20 kc_21 ks_22 : Nat, nx_20 = (nx + 1) → kc_21 = (0 + 1) → ks_22 = (0 + x1.toNatClampNeg) →
  (kc_21 ≤ mc ∧ ks_22 ≤ ms ∧ Post (some nx) hp_19 nx_20))) ∧ (x1 < 0 → (l.stackTraces = false ∧ 160 ≤ d ∧ (0 + 3) ≤ mc ∧ (0 + 222) ≤ ms ∧ ∀ q_23 nx_24 : Nat, nx ≤ nx_24 →
  PostX q_23 hp nx_24)))))
set_option maxHeartbeats 40000000 in
theorem mv_X0_things {l : Launch} {g : zG} {d : Nat} {mc ms : Nat} {x0 : Int32} {x1 : Int32} {hp : zHp} {nx : Nat} {Post : Option Nat → zHp → Nat → Prop} {PostX : Nat → zHp → Nat → Prop} (hw : wv_X0_things l g d mc ms x0 x1 hp nx Post PostX) : zMx l g yX0_things cX0_things 2 (some (.object "java/lang/Object")) (d + 1) mc ms [.int x0, .int x1] hp nx (zQq g Post) "java/lang/NegativeArraySizeException" PostX := by
  refine zy_start (by decide) (Nat.le_of_ble_eq_true rfl) ?_
  intro p e s m below meth c hk hr hin htb hH hz ls hl
  have hx := hk.1.1
  have hb := hk.1.2.1
  have hown := hk.1.2.2.2.1
  have hts := hk.1.2.2.2.2
  have hS : va_S (zAd g) s.heap s.heap [] := va_S.rf
  have hl : lv_has ls 2 [(0, .int x0), (1, .int x1)] := hl
  unfold wv_X0_things at hw
  refine lv_iload_n hx hb dX0_things_0 rfl (lv_at hl 0 rfl) ?_
  by_cases hc0 : x0 = (0 : Int32)
  · have hw := hw.1 hc0
    refine lv_tableIn (tgt := 28) hx hb dX0_things_1 (by rw [hc0]; decide) (by rw [hc0]; decide) (by rw [hc0]; rfl) (by decide) ?_
    refine lv_iload_n hx hb dX0_things_28 rfl (lv_at hl 1 rfl) ?_
    by_cases h0 : x1 < 0
    · have hw := hw.2 h0
      obtain ⟨hT, h160, hkc, hks, hw⟩ := hw
      refine zv_newarr hk hT hH hz hS hl.1 h0 h160 (by first | exact Nat.le_of_ble_eq_true rfl | (simp only [List.map_cons, List.map_nil, z_cat]; exact Nat.le_of_ble_eq_true rfl)) hkc hks dX0_things_29 (fun H q_5 nx_6 hle hH hz hS hq => ?_)
      have hw := hw q_5 nx_6 hle
      exact zy_out hk hH hz hS htb hq hw hkc hks
    · have hw := hw.1 h0
      obtain ⟨hn0, hn1, hcl, hsl, hw⟩ := hw
      refine zx_newa hk hH hz hS (atype := .byte) 2 (ty := .byte) rfl q276 rfl (fun _ _ h => h) (a0 := (x1.toNatClampNeg, .inl (fun _ => 0))) (fun _ => rfl) hn0 rfl (by simp only [componentBytes]; omega) hcl hsl dX0_things_29 (fun H hH hz hS hlt hnb => ?_)
      have hw := hw hlt hnb
      generalize va_up hp nx _ = hp_1 at hH hw
      obtain ⟨kc_3, ekc⟩ : ∃ k, k = (0 + 1) := ⟨_, rfl⟩
      obtain ⟨ks_4, eks⟩ : ∃ k, k = (0 + x1.toNatClampNeg) := ⟨_, rfl⟩
      have hw := hw _ _ _ rfl ekc eks
      refine W.widen (Nat.le_of_eq ekc.symm) (Nat.le_of_eq eks.symm) ?_
      clear ekc eks
      generalize (nx + 1) = nx_2 at hz hw
      obtain ⟨hkc, hks, hw⟩ := hw
      exact vy_ret (zr_aret (r := some nx) hk hr (Or.inl ⟨_, rfl⟩) hH hz hS hw hkc hks dX0_things_31)
  by_cases hc1 : x0 = (1 : Int32)
  · have hw := hw.2.1 hc1
    refine lv_tableIn (tgt := 32) hx hb dX0_things_1 (by rw [hc1]; decide) (by rw [hc1]; decide) (by rw [hc1]; rfl) (by decide) ?_
    refine lv_iload_n hx hb dX0_things_32 rfl (lv_at hl 1 rfl) ?_
    by_cases h0 : x1 < 0
    · have hw := hw.2 h0
      obtain ⟨hT, h160, hkc, hks, hw⟩ := hw
      refine zv_newarr hk hT hH hz hS hl.1 h0 h160 (by first | exact Nat.le_of_ble_eq_true rfl | (simp only [List.map_cons, List.map_nil, z_cat]; exact Nat.le_of_ble_eq_true rfl)) hkc hks dX0_things_33 (fun H q_11 nx_12 hle hH hz hS hq => ?_)
      have hw := hw q_11 nx_12 hle
      exact zy_out hk hH hz hS htb hq hw hkc hks
    · have hw := hw.1 h0
      obtain ⟨hn0, hn1, hcl, hsl, hw⟩ := hw
      refine zx_newa hk hH hz hS (atype := .int) 0 (ty := .int) rfl q277 rfl (fun _ _ h => h) (a0 := (x1.toNatClampNeg, .inl (fun _ => 0))) (fun _ => rfl) hn0 rfl (by simp only [componentBytes]; omega) hcl hsl dX0_things_33 (fun H hH hz hS hlt hnb => ?_)
      have hw := hw hlt hnb
      generalize va_up hp nx _ = hp_7 at hH hw
      obtain ⟨kc_9, ekc⟩ : ∃ k, k = (0 + 1) := ⟨_, rfl⟩
      obtain ⟨ks_10, eks⟩ : ∃ k, k = (0 + x1.toNatClampNeg) := ⟨_, rfl⟩
      have hw := hw _ _ _ rfl ekc eks
      refine W.widen (Nat.le_of_eq ekc.symm) (Nat.le_of_eq eks.symm) ?_
      clear ekc eks
      generalize (nx + 1) = nx_8 at hz hw
      obtain ⟨hkc, hks, hw⟩ := hw
      exact vy_ret (zr_aret (r := some nx) hk hr (Or.inl ⟨_, rfl⟩) hH hz hS hw hkc hks dX0_things_35)
  by_cases hc2 : x0 = (2 : Int32)
  · have hw := hw.2.2.1 hc2
    refine lv_tableIn (tgt := 36) hx hb dX0_things_1 (by rw [hc2]; decide) (by rw [hc2]; decide) (by rw [hc2]; rfl) (by decide) ?_
    refine lv_iload_n hx hb dX0_things_36 rfl (lv_at hl 1 rfl) ?_
    by_cases h0 : x1 < 0
    · have hw := hw.2 h0
      obtain ⟨hT, h160, hkc, hks, hw⟩ := hw
      refine zv_newarr hk hT hH hz hS hl.1 h0 h160 (by first | exact Nat.le_of_ble_eq_true rfl | (simp only [List.map_cons, List.map_nil, z_cat]; exact Nat.le_of_ble_eq_true rfl)) hkc hks dX0_things_37 (fun H q_17 nx_18 hle hH hz hS hq => ?_)
      have hw := hw q_17 nx_18 hle
      exact zy_out hk hH hz hS htb hq hw hkc hks
    · have hw := hw.1 h0
      obtain ⟨hn0, hn1, hcl, hsl, hw⟩ := hw
      refine zx_newa hk hH hz hS (atype := .float) 5 (ty := .float) rfl q2616 rfl (fun _ _ h => h) (a0 := (x1.toNatClampNeg, .inr (.inr (.inl (fun _ => 0))))) (fun _ => rfl) hn0 rfl (by simp only [componentBytes]; omega) hcl hsl dX0_things_37 (fun H hH hz hS hlt hnb => ?_)
      have hw := hw hlt hnb
      generalize va_up hp nx _ = hp_13 at hH hw
      obtain ⟨kc_15, ekc⟩ : ∃ k, k = (0 + 1) := ⟨_, rfl⟩
      obtain ⟨ks_16, eks⟩ : ∃ k, k = (0 + x1.toNatClampNeg) := ⟨_, rfl⟩
      have hw := hw _ _ _ rfl ekc eks
      refine W.widen (Nat.le_of_eq ekc.symm) (Nat.le_of_eq eks.symm) ?_
      clear ekc eks
      generalize (nx + 1) = nx_14 at hz hw
      obtain ⟨hkc, hks, hw⟩ := hw
      exact vy_ret (zr_aret (r := some nx) hk hr (Or.inl ⟨_, rfl⟩) hH hz hS hw hkc hks dX0_things_39)
  have hw := hw.2.2.2 ⟨hc0, hc1, hc2⟩
  refine lv_tableOut (tgt := 40) hx hb dX0_things_1 (by have h0 := lv_neT hc0 (a := 0) (by decide); have h1 := lv_neT hc1 (a := 1) (by decide); have h2 := lv_neT hc2 (a := 2) (by decide); omega) (by decide) ?_
  refine lv_iload_n hx hb dX0_things_40 rfl (lv_at hl 1 rfl) ?_
  by_cases h0 : x1 < 0
  · have hw := hw.2 h0
    obtain ⟨hT, h160, hkc, hks, hw⟩ := hw
    refine zv_newarr hk hT hH hz hS hl.1 h0 h160 (by first | exact Nat.le_of_ble_eq_true rfl | (simp only [List.map_cons, List.map_nil, z_cat]; exact Nat.le_of_ble_eq_true rfl)) hkc hks dX0_things_41 (fun H q_23 nx_24 hle hH hz hS hq => ?_)
    have hw := hw q_23 nx_24 hle
    exact zy_out hk hH hz hS htb hq hw hkc hks
  · have hw := hw.1 h0
    obtain ⟨hn0, hn1, hcl, hsl, hw⟩ := hw
    refine zx_newa hk hH hz hS (atype := .double) 1 (ty := .double) rfl q275 rfl (fun _ _ h => h) (a0 := (x1.toNatClampNeg, .inr (.inr (.inr (.inl (fun _ => 0)))))) (fun _ => rfl) hn0 rfl (by simp only [componentBytes]; omega) hcl hsl dX0_things_41 (fun H hH hz hS hlt hnb => ?_)
    have hw := hw hlt hnb
    generalize va_up hp nx _ = hp_19 at hH hw
    obtain ⟨kc_21, ekc⟩ : ∃ k, k = (0 + 1) := ⟨_, rfl⟩
    obtain ⟨ks_22, eks⟩ : ∃ k, k = (0 + x1.toNatClampNeg) := ⟨_, rfl⟩
    have hw := hw _ _ _ rfl ekc eks
    refine W.widen (Nat.le_of_eq ekc.symm) (Nat.le_of_eq eks.symm) ?_
    clear ekc eks
    generalize (nx + 1) = nx_20 at hz hw
    obtain ⟨hkc, hks, hw⟩ := hw
    exact vy_ret (zr_aret (r := some nx) hk hr (Or.inl ⟨_, rfl⟩) hH hz hS hw hkc hks dX0_things_43)
theorem cw_WhatIfSheet_Whole : ∀ ci ∈ [6, 8], zCw "WhatIfSheet$Whole" ci := by
  intro ci h
  simp only [List.mem_cons, List.not_mem_nil, or_false] at h
  rcases h with rfl | rfl
  · exact ⟨RX6, TX6, 3, rfl, Or.inr rfl⟩
  · exact ⟨RX8, TX8, 3, rfl, Or.inl q3389⟩
theorem cn_WhatIfSheet_Whole {ci : Nat} (h : ci ∈ [2, 7, 9, 10]) : ∃ (C : String) (T : u_T) (N : Nat), zcl[ci]? = some (C, T, N) ∧ (C, "WhatIfSheet$Whole") ∈ zNC ∧ packageOf C = "" ∧ C.toList.length ≤ 20 := by
  simp only [List.mem_cons, List.not_mem_nil, or_false] at h
  rcases h with rfl | rfl | rfl | rfl <;> exact ⟨_, _, _, rfl, by simp [zNC, RX2, RX6, RX7, RX8, RX9, RX10], by decide +kernel, by decide +kernel⟩
theorem cw_WhatIfSheet_Single : ∀ ci ∈ [7, 9], zCw "WhatIfSheet$Single" ci := by
  intro ci h
  simp only [List.mem_cons, List.not_mem_nil, or_false] at h
  rcases h with rfl | rfl
  · exact ⟨RX7, TX7, 3, rfl, Or.inr rfl⟩
  · exact ⟨RX9, TX9, 3, rfl, Or.inl q3390⟩
theorem cn_WhatIfSheet_Single {ci : Nat} (h : ci ∈ [2, 6, 8, 10]) : ∃ (C : String) (T : u_T) (N : Nat), zcl[ci]? = some (C, T, N) ∧ (C, "WhatIfSheet$Single") ∈ zNC ∧ packageOf C = "" ∧ C.toList.length ≤ 20 := by
  simp only [List.mem_cons, List.not_mem_nil, or_false] at h
  rcases h with rfl | rfl | rfl | rfl <;> exact ⟨_, _, _, rfl, by simp [zNC, RX2, RX6, RX7, RX8, RX9, RX10], by decide +kernel, by decide +kernel⟩
theorem cw_WhatIfSheet_Small : ∀ ci ∈ [8], zCw "WhatIfSheet$Small" ci := by
  intro ci h
  simp only [List.mem_cons, List.not_mem_nil, or_false] at h
  rcases h with rfl
  · exact ⟨RX8, TX8, 3, rfl, Or.inr rfl⟩
theorem cn_WhatIfSheet_Small {ci : Nat} (h : ci ∈ [2, 6, 7, 9, 10]) : ∃ (C : String) (T : u_T) (N : Nat), zcl[ci]? = some (C, T, N) ∧ (C, "WhatIfSheet$Small") ∈ zNC ∧ packageOf C = "" ∧ C.toList.length ≤ 20 := by
  simp only [List.mem_cons, List.not_mem_nil, or_false] at h
  rcases h with rfl | rfl | rfl | rfl | rfl <;> exact ⟨_, _, _, rfl, by simp [zNC, RX2, RX6, RX7, RX8, RX9, RX10], by decide +kernel, by decide +kernel⟩
theorem cw_WhatIfSheet_Turn : ∀ ci ∈ [9], zCw "WhatIfSheet$Turn" ci := by
  intro ci h
  simp only [List.mem_cons, List.not_mem_nil, or_false] at h
  rcases h with rfl
  · exact ⟨RX9, TX9, 3, rfl, Or.inr rfl⟩
theorem cn_WhatIfSheet_Turn {ci : Nat} (h : ci ∈ [2, 6, 7, 8, 10]) : ∃ (C : String) (T : u_T) (N : Nat), zcl[ci]? = some (C, T, N) ∧ (C, "WhatIfSheet$Turn") ∈ zNC ∧ packageOf C = "" ∧ C.toList.length ≤ 20 := by
  simp only [List.mem_cons, List.not_mem_nil, or_false] at h
  rcases h with rfl | rfl | rfl | rfl | rfl <;> exact ⟨_, _, _, rfl, by simp [zNC, RX2, RX6, RX7, RX8, RX9, RX10], by decide +kernel, by decide +kernel⟩
theorem cw_WhatIfSheet_Capped : ∀ ci ∈ [10], zCw "WhatIfSheet$Capped" ci := by
  intro ci h
  simp only [List.mem_cons, List.not_mem_nil, or_false] at h
  rcases h with rfl
  · exact ⟨RX10, TX10, 3, rfl, Or.inr rfl⟩
theorem cn_WhatIfSheet_Capped {ci : Nat} (h : ci ∈ [2, 6, 7, 8, 9]) : ∃ (C : String) (T : u_T) (N : Nat), zcl[ci]? = some (C, T, N) ∧ (C, "WhatIfSheet$Capped") ∈ zNC ∧ packageOf C = "" ∧ C.toList.length ≤ 20 := by
  simp only [List.mem_cons, List.not_mem_nil, or_false] at h
  rcases h with rfl | rfl | rfl | rfl | rfl <;> exact ⟨_, _, _, rfl, by simp [zNC, RX2, RX6, RX7, RX8, RX9, RX10], by decide +kernel, by decide +kernel⟩
def wv_X0_taken (l : Launch) (g : zG) (d : Nat) (mc ms : Nat) (h0 : Nat) (x1 : Int32) (x2 : Int32) (hp : zHp) (nx : Nat) (Post : Int32 → zHp → Nat → Prop) : Prop :=
  (0 ≤ mc ∧ 0 ≤ ms ∧ zMt l g yX0_isCell cX0_isCell 1 (some .boolean) d 0 0 [.int x1] hp nx (zQi g fun x_3 hp_1 nx_2 =>
  (∃ P_19 : zHp → Nat → Nat → Nat → Prop, (∀ (hp_4 : zHp) (nx_5 : Nat) (kc_6 : Nat) (ks_7 : Nat), P_19 hp_4 nx_5 kc_6 ks_7 →
  (kc_6 ≤ mc ∧ ks_7 ≤ ms ∧ Post (-2 : Int32) hp_4 nx_5)) ∧
  ((x_3 = 0 →
  P_19 hp_1 nx_2 0 0) ∧
  (¬ x_3 = 0 →
  (0 ≤ mc ∧ 0 ≤ ms ∧ zMt l g yX0_in cX0_in 6 (some .boolean) d 0 0 [.long x2.toInt64, .long (0 : Int64), .long (5 : Int64)] hp_1 nx_2 (zQi g fun x_10 hp_8 nx_9 =>
  ((x_10 = 0 →
  P_19 hp_8 nx_9 0 0) ∧
  (¬ x_10 = 0 →
  (zgR hp_8 (some h0) [0] 0 fun r_14 =>
  (zaR (g.2.1 7) hp_8 r_14 fun a_15 n_16 f_17 => vp_in x1 n_16 ∧ ∀ r_18 : Option Nat, r_18 = f_17 x1.toNatClampNeg →
  (∃ P_112 : (Option Nat) → (Option Nat) → zHp → Nat → Nat → Nat → Prop, (∀ (r_19 : Option Nat) (r_20 : Option Nat) (hp_21 : zHp) (nx_22 : Nat) (kc_23 : Nat) (ks_24 : Nat), P_112 r_19 r_20 hp_21 nx_22 kc_23 ks_24 →
  (kc_23 ≤ mc ∧ ks_24 ≤ ms ∧ Post (-13 : Int32) hp_21 nx_22)) ∧
  ((x2 = (0 : Int32) →
  (zo hp_8 r_18 [2, 6, 7, 8, 9, 10] fun a_32 ci_33 fs_34 => ((ci_33 ∈ ([2, 6, 7, 8, 9, 10] : List Nat) → (0 ≤ mc ∧ 0 ≤ ms ∧ zo hp_8 r_18 [2, 6, 7, 8, 9, 10] fun a_28 ci_29 fs_30 => ∃ PP_31 : Int32 → zHp → Nat → Prop, (∀ (x_27 : Int32) (hp_25 : zHp) (nx_26 : Nat), PP_31 x_27 hp_25 nx_26 →
  (0 ≤ mc ∧ 0 ≤ ms ∧ Post x_27 hp_25 nx_26)) ∧ ((ci_29 = 2 → zMt l g yX2_kind cX2_kind 1 (some .int) d 0 0 (.ref a_28 :: []) hp_8 nx_9 (zQi g PP_31)) ∧ (ci_29 = 6 → zMt l g yX6_kind cX6_kind 1 (some .int) d 0 0 (.ref a_28 :: []) hp_8 nx_9 (zQi g PP_31)) ∧ (ci_29 = 7 → zMt l g yX7_kind cX7_kind 1 (some .int) d 0 0 (.ref a_28 :: []) hp_8 nx_9 (zQi g PP_31)) ∧ (ci_29 = 8 → zMt l g yX8_kind cX8_kind 1 (some .int) d 0 0 (.ref a_28 :: []) hp_8 nx_9 (zQi g PP_31)) ∧ (ci_29 = 9 → zMt l g yX9_kind cX9_kind 1 (some .int) d 0 0 (.ref a_28 :: []) hp_8 nx_9 (zQi g PP_31)) ∧ (ci_29 = 10 → zMt l g yX10_kind cX10_kind 1 (some .int) d 0 0 (.ref a_28 :: []) hp_8 nx_9 (zQi g PP_31))))) ∧ (¬ ci_33 ∈ ([2, 6, 7, 8, 9, 10] : List Nat) → True)))) ∧
  (x2 = (1 : Int32) →
  (zo hp_8 r_18 [2, 6, 7, 8, 9, 10] fun a_42 ci_43 fs_44 => ((ci_43 ∈ ([6, 8] : List Nat) → (0 ≤ mc ∧ 0 ≤ ms ∧ zo hp_8 r_18 [6, 8] fun a_38 ci_39 fs_40 => ∃ PP_41 : Int32 → zHp → Nat → Prop, (∀ (x_37 : Int32) (hp_35 : zHp) (nx_36 : Nat), PP_41 x_37 hp_35 nx_36 →
  (0 ≤ mc ∧ 0 ≤ ms ∧ Post x_37 hp_35 nx_36)) ∧ ((ci_39 = 6 → zMt l g yX6_kind cX6_kind 1 (some .int) d 0 0 (.ref a_38 :: []) hp_8 nx_9 (zQi g PP_41)) ∧ (ci_39 = 8 → zMt l g yX8_kind cX8_kind 1 (some .int) d 0 0 (.ref a_38 :: []) hp_8 nx_9 (zQi g PP_41))))) ∧ (¬ ci_43 ∈ ([6, 8] : List Nat) → (l.stackTraces = false ∧ 160 ≤ d ∧ (0 + 3) ≤ mc ∧ (0 + 1010) ≤ ms ∧ ∀ q_45 nx_46 : Nat, nx_9 ≤ nx_46 →
  P_112 r_18 (some q_45) hp_8 nx_46 (0 + 3) (0 + 1010)))))) ∧
  (x2 = (2 : Int32) →
  (zo hp_8 r_18 [2, 6, 7, 8, 9, 10] fun a_54 ci_55 fs_56 => ((ci_55 ∈ ([7, 9] : List Nat) → (0 ≤ mc ∧ 0 ≤ ms ∧ zo hp_8 r_18 [7, 9] fun a_50 ci_51 fs_52 => ∃ PP_53 : Int32 → zHp → Nat → Prop, (∀ (x_49 : Int32) (hp_47 : zHp) (nx_48 : Nat), PP_53 x_49 hp_47 nx_48 →
  (0 ≤ mc ∧ 0 ≤ ms ∧ Post x_49 hp_47 nx_48)) ∧ ((ci_51 = 7 → zMt l g yX7_kind cX7_kind 1 (some .int) d 0 0 (.ref a_50 :: []) hp_8 nx_9 (zQi g PP_53)) ∧ (ci_51 = 9 → zMt l g yX9_kind cX9_kind 1 (some .int) d 0 0 (.ref a_50 :: []) hp_8 nx_9 (zQi g PP_53))))) ∧ (¬ ci_55 ∈ ([7, 9] : List Nat) → (l.stackTraces = false ∧ 160 ≤ d ∧ (0 + 3) ≤ mc ∧ (0 + 1010) ≤ ms ∧ ∀ q_57 nx_58 : Nat, nx_9 ≤ nx_58 →
  P_112 r_18 (some q_57) hp_8 nx_58 (0 + 3) (0 + 1010)))))) ∧
  (x2 = (3 : Int32) →
  (zo hp_8 r_18 [2, 6, 7, 8, 9, 10] fun a_65 ci_66 fs_67 => ((ci_66 ∈ ([8] : List Nat) → (0 ≤ mc ∧ 0 ≤ ms ∧ zo hp_8 r_18 [8] fun a_62 ci_63 fs_64 => zMt l g yX8_kind cX8_kind 1 (some .int) d 0 0 (.ref a_62 :: []) hp_8 nx_9 (zQi g fun x_61 hp_59 nx_60 =>
  (0 ≤ mc ∧ 0 ≤ ms ∧ Post x_61 hp_59 nx_60)))) ∧ (¬ ci_66 ∈ ([8] : List Nat) → (l.stackTraces = false ∧ 160 ≤ d ∧ (0 + 3) ≤ mc ∧ (0 + 1010) ≤ ms ∧ ∀ q_68 nx_69 : Nat, nx_9 ≤ nx_69 →
  P_112 r_18 (some q_68) hp_8 nx_69 (0 + 3) (0 + 1010)))))) ∧
  (x2 = (4 : Int32) →
  (zo hp_8 r_18 [2, 6, 7, 8, 9, 10] fun a_76 ci_77 fs_78 => ((ci_77 ∈ ([9] : List Nat) → (0 ≤ mc ∧ 0 ≤ ms ∧ zo hp_8 r_18 [9] fun a_73 ci_74 fs_75 => zMt l g yX9_kind cX9_kind 1 (some .int) d 0 0 (.ref a_73 :: []) hp_8 nx_9 (zQi g fun x_72 hp_70 nx_71 =>
  (0 ≤ mc ∧ 0 ≤ ms ∧ Post x_72 hp_70 nx_71)))) ∧ (¬ ci_77 ∈ ([9] : List Nat) → (l.stackTraces = false ∧ 160 ≤ d ∧ (0 + 3) ≤ mc ∧ (0 + 1010) ≤ ms ∧ ∀ q_79 nx_80 : Nat, nx_9 ≤ nx_80 →
  P_112 r_18 (some q_79) hp_8 nx_80 (0 + 3) (0 + 1010)))))) ∧
  (¬ x2 = (0 : Int32) ∧ ¬ x2 = (1 : Int32) ∧ ¬ x2 = (2 : Int32) ∧ ¬ x2 = (3 : Int32) ∧ ¬ x2 = (4 : Int32) →
  (zo hp_8 r_18 [2, 6, 7, 8, 9, 10] fun a_87 ci_88 fs_89 => ((ci_88 ∈ ([10] : List Nat) → (0 ≤ mc ∧ 0 ≤ ms ∧ zo hp_8 r_18 [10] fun a_84 ci_85 fs_86 => zMt l g yX10_kind cX10_kind 1 (some .int) d 0 0 (.ref a_84 :: []) hp_8 nx_9 (zQi g fun x_83 hp_81 nx_82 =>
  (0 ≤ mc ∧ 0 ≤ ms ∧ Post x_83 hp_81 nx_82)))) ∧ (¬ ci_88 ∈ ([10] : List Nat) → (l.stackTraces = false ∧ 160 ≤ d ∧ (0 + 3) ≤ mc ∧ (0 + 1010) ≤ ms ∧ ∀ q_90 nx_91 : Nat, nx_9 ≤ nx_91 →
  P_112 r_18 (some q_90) hp_8 nx_91 (0 + 3) (0 + 1010)))))))))))))))))))
set_option maxHeartbeats 40000000 in
theorem mv_X0_taken {l : Launch} {g : zG} {d : Nat} {mc ms : Nat} {h0 : Nat} {x1 : Int32} {x2 : Int32} {hp : zHp} {nx : Nat} {Post : Int32 → zHp → Nat → Prop} (hw : wv_X0_taken l g d mc ms h0 x1 x2 hp nx Post) : zMtM l g yX0_taken cX0_taken 5 (some .int) [(29, 71, 112, 445), (72, 79, 112, 445), (80, 87, 112, 445), (88, 95, 112, 445), (96, 103, 112, 445), (104, 111, 112, 445)] (d + 1) mc ms [.ref h0, .int x1, .int x2] hp nx (zQi g Post) := by
  refine z_startM (by decide) (Nat.le_of_ble_eq_true rfl) ?_
  intro p e s m below meth c hk hr hin htb hH hz hM ls hl
  have hx := hk.1.1
  have hb := hk.1.2.1
  have hown := hk.1.2.2.2.1
  have hts := hk.1.2.2.2.2
  have hS : va_S (zAd g) s.heap s.heap [] := va_S.rf
  have hl : lv_has ls 5 [(0, va_rf (some h0)), (1, .int x1), (2, .int x2)] := hl
  unfold wv_X0_taken at hw
  refine lv_iload_n hx hb dX0_taken_0 rfl (lv_at hl 1 rfl) ?_
  obtain ⟨hcl, hsl, hw⟩ := hw
  refine zr_calli (zr_runS (As := [.int x1]) hk hH hz hS hl.1 hw (va_cwS 1 hts (lw_S q1317 q1318 q131 q1319) rfl rfl rfl (by decide +kernel) (z_room (Nat.le_of_ble_eq_true rfl))) rfl rfl (Nat.le_of_ble_eq_true rfl) dX0_taken_1 ⟨hcl, hsl⟩) hS (fun x_3 hp_1 nx_2 hw H locs hH hz hS => ?_)
  obtain ⟨P_19, hP_19, hw⟩ := hw
  have hJ_19 : ∀ (hp_4 : zHp) (nx_5 : Nat) (kc_6 : Nat) (ks_7 : Nat) (H : Heap) (locs : List Loc) (ls : Array Slot), P_19 hp_4 nx_5 kc_6 ks_7 → lv_has ls 5 [(0, va_rf (some h0)), (1, .int x1), (2, .int x2)] → zHd g hp_4 H → H.size = nx_5 → va_S (zAd g) s.heap H locs → W p l e (zrm (d + 1) mc ms) s m ([.ref h0, .int x1, .int x2] : List Value).toArray below meth c H locs kc_6 ks_7 (MQ below (zQi g Post) ([.ref h0, .int x1, .int x2] : List Value).toArray s mc ms (zAd g)) (F0 m 19 ls []) := by
    intro hp_4 nx_5 kc_6 ks_7 H locs ls hw hl hH hz hS
    have hw := hP_19 hp_4 nx_5 kc_6 ks_7 hw
    refine lv_bipush (v := (-2 : Int32)) hx hb dX0_taken_19 (by decide) ?_
    obtain ⟨hkc, hks, hw⟩ := hw
    exact zr_iret hk hr hH hz hS hw hkc hks dX0_taken_21
  refine lv_if_eq (tgt := 19) hx hb dX0_taken_4 (by decide) (fun hc => ?_) (fun hc => ?_)
  · have hw := hw.1 hc
    exact hJ_19 hp_1 nx_2 0 0 _ _ _ hw hl hH hz hS
  · have hw := hw.2 hc
    refine lv_iload_n hx hb dX0_taken_7 rfl (lv_at hl 2 rfl) ?_
    refine lv_i2l hx hb dX0_taken_8 rfl ?_
    refine lv_lconst (v := (0 : Int64)) hx hb dX0_taken_9 (by decide) ?_
    refine lv_ldc2 hx hb hown (hts _ q1307) dX0_taken_10 ?_
    obtain ⟨hcl, hsl, hw⟩ := hw
    refine zr_calli (zr_runS (As := [.long x2.toInt64, .long (0 : Int64), .long (5 : Int64)]) hk hH hz hS hl.1 hw (va_cwS 3 hts (lw_S q1308 q1309 q131 q1310) rfl rfl rfl (by decide +kernel) (z_room (Nat.le_of_ble_eq_true rfl))) rfl rfl (Nat.le_of_ble_eq_true rfl) dX0_taken_13 ⟨hcl, hsl⟩) hS (fun x_10 hp_8 nx_9 hw H locs hH hz hS => ?_)
    refine lv_if_ne (tgt := 22) hx hb dX0_taken_16 (by decide) (fun hc => ?_) (fun hc => ?_)
    · have hw := hw.2 hc
      refine zr_aload_n (r := some h0) hx hb dX0_taken_22 rfl (lv_at hl 0 rfl) ?_
      obtain ⟨a_11, ci_12, fs_13, r_14, er, he, hc, hv, hw⟩ := zgR_e hw
      refine zw_get hk hH er he hv (fk_X0_31 hc) dX0_taken_23 ?_
      refine lv_iload_n hx hb dX0_taken_26 rfl (lv_at hl 1 rfl) ?_
      obtain ⟨a_15, n_16, f_17, er, he, hi, hw⟩ := zaR_e hw
      have hw := hw _ rfl
      refine zw_aald hk hH 7 er he rfl rfl hi dX0_taken_27 ?_
      generalize f_17 x1.toNatClampNeg = r_18 at hw ⊢
      refine zr_astore_n (r := r_18) (i := 3) (lv' := [(3, va_rf r_18), (0, va_rf (some h0)), (1, .int x1), (2, .int x2)]) hx hb dX0_taken_28 rfl hl (by decide) (by first | rfl | simp [List.filter_cons, z_cat, z_catI, z_catJ, z_catF, z_catD]) (fun ls hl => ?_)
      refine lv_iload_n hx hb dX0_taken_29 rfl (lv_at hl 3 rfl) ?_
      obtain ⟨P_112, hP_112, hw⟩ := hw
      have hJ_112 : ∀ (r_19 : Option Nat) (r_20 : Option Nat) (hp_21 : zHp) (nx_22 : Nat) (kc_23 : Nat) (ks_24 : Nat) (H : Heap) (locs : List Loc) (ls : Array Slot), P_112 r_19 r_20 hp_21 nx_22 kc_23 ks_24 → lv_has ls 5 [(0, va_rf (some h0)), (1, .int x1), (2, .int x2), (3, va_rf r_19)] → zHd g hp_21 H → H.size = nx_22 → va_S (zAd g) s.heap H locs → W p l e (zrm (d + 1) mc ms) s m ([.ref h0, .int x1, .int x2] : List Value).toArray below meth c H locs kc_23 ks_24 (MQ below (zQi g Post) ([.ref h0, .int x1, .int x2] : List Value).toArray s mc ms (zAd g)) (F0 m 112 ls [va_rf r_20]) := by
        intro r_19 r_20 hp_21 nx_22 kc_23 ks_24 H locs ls hw hl hH hz hS
        have hw := hP_112 r_19 r_20 hp_21 nx_22 kc_23 ks_24 hw
        refine zr_astore (r := r_20) (lv' := [(4, va_rf r_20), (0, va_rf (some h0)), (1, .int x1), (2, .int x2), (3, va_rf r_19)]) hx hb dX0_taken_112 hl (by decide) (by first | rfl | simp [List.filter_cons, z_cat, z_catI, z_catJ, z_catF, z_catD]) (fun ls hl => ?_)
        refine lv_bipush (v := (-13 : Int32)) hx hb dX0_taken_114 (by decide) ?_
        obtain ⟨hkc, hks, hw⟩ := hw
        exact zr_iret hk hr hH hz hS hw hkc hks dX0_taken_116
      by_cases hc0 : x2 = (0 : Int32)
      · have hw := hw.1 hc0
        refine lv_tableIn (tgt := 64) hx hb dX0_taken_30 (by rw [hc0]; decide) (by rw [hc0]; decide) (by rw [hc0]; rfl) (by decide) ?_
        refine zr_aload_n (r := r_18) hx hb dX0_taken_64 rfl (lv_at hl 0 rfl) ?_
        obtain ⟨a_32, ci_33, fs_34, er, he, hc, hw⟩ := zo_e hw
        by_cases hin9 : ci_33 ∈ ([2, 6, 7, 8, 9, 10] : List Nat)
        · have hw := hw.1 hin9
          refine zw_cast (r := r_18) hk hH q208 (fun a9 e9 => by cases er.symm.trans e9; exact ⟨_, _, he, hin9⟩) cw_WhatIfSheet_Plain dX0_taken_65 ?_
          obtain ⟨hcl, hsl, hw⟩ := hw
          obtain ⟨a_28, ci_29, fs_30, er, he, hc, PP_31, hPP, hw⟩ := zo_e hw
          have hC : ∀ (x_27 : Int32) (hp_25 : zHp) (nx_26 : Nat), PP_31 x_27 hp_25 nx_26 → ∀ (H : Heap) (locs : List Loc), zHd g hp_25 H → H.size = nx_26 → va_S (zAd g) s.heap H locs → W p l e (zrm (d + 1) mc ms) s m ([.ref h0, .int x1, .int x2] : List Value).toArray below meth c H locs (0 + 0) (0 + 0) (MQ below (zQi g Post) ([.ref h0, .int x1, .int x2] : List Value).toArray s mc ms (zAd g)) (F0 m 71 ls [.int x_27]) := by
            intro x_27 hp_25 nx_26 hw H locs hH hz hS
            have hw := hPP x_27 hp_25 nx_26 hw
            obtain ⟨hkc, hks, hw⟩ := hw
            exact zr_iret hk hr hH hz hS hw hkc hks dX0_taken_71
          simp only [List.mem_cons, List.not_mem_nil, or_false] at hc
          rcases hc with rfl | rfl | rfl | rfl | rfl | rfl
          · exact zr_calli (zw_runV (As := []) hk hH hz hS hl.1 er (hw.1 rfl) (cwV 0 hts (lw_V q2031 q2032 q2033 q152 q2050) rfl rfl rfl (by decide +kernel) (z_room (Nat.le_of_ble_eq_true rfl))) he rfl rfl rfl (Nat.le_of_ble_eq_true rfl) dX0_taken_68 ⟨hcl, hsl⟩) hS hC
          · exact zr_calli (zw_runU (As := []) hk hH hz hS hl.1 er (hw.2.1 rfl) (va_cwO 0 hts (z_O q2031 q2034 q2032 q2047 q2048 q163 q2049) rfl rfl rfl q2050 (by decide +kernel) (z_room (Nat.le_of_ble_eq_true rfl))) he rfl rfl rfl (Nat.le_of_ble_eq_true rfl) dX0_taken_68 ⟨hcl, hsl⟩) hS hC
          · exact zr_calli (zw_runU (As := []) hk hH hz hS hl.1 er (hw.2.2.1 rfl) (va_cwO 0 hts (z_O q2031 q2034 q2032 q2038 q2039 q164 q2040) rfl rfl rfl q2050 (by decide +kernel) (z_room (Nat.le_of_ble_eq_true rfl))) he rfl rfl rfl (Nat.le_of_ble_eq_true rfl) dX0_taken_68 ⟨hcl, hsl⟩) hS hC
          · exact zr_calli (zw_runU (As := []) hk hH hz hS hl.1 er (hw.2.2.2.1 rfl) (va_cwO 0 hts (z_O q2031 q2034 q2032 q2041 q2042 q165 q2043) rfl rfl rfl q2050 (by decide +kernel) (z_room (Nat.le_of_ble_eq_true rfl))) he rfl rfl rfl (Nat.le_of_ble_eq_true rfl) dX0_taken_68 ⟨hcl, hsl⟩) hS hC
          · exact zr_calli (zw_runU (As := []) hk hH hz hS hl.1 er (hw.2.2.2.2.1 rfl) (va_cwO 0 hts (z_O q2031 q2034 q2032 q2044 q2045 q166 q2046) rfl rfl rfl q2050 (by decide +kernel) (z_room (Nat.le_of_ble_eq_true rfl))) he rfl rfl rfl (Nat.le_of_ble_eq_true rfl) dX0_taken_68 ⟨hcl, hsl⟩) hS hC
          · exact zr_calli (zw_runU (As := []) hk hH hz hS hl.1 er (hw.2.2.2.2.2 rfl) (va_cwO 0 hts (z_O q2031 q2034 q2032 q2035 q2036 q167 q2037) rfl rfl rfl q2050 (by decide +kernel) (z_room (Nat.le_of_ble_eq_true rfl))) he rfl rfl rfl (Nat.le_of_ble_eq_true rfl) dX0_taken_68 ⟨hcl, hsl⟩) hS hC
        · exact absurd hc hin9
      by_cases hc1 : x2 = (1 : Int32)
      · have hw := hw.2.1 hc1
        refine lv_tableIn (tgt := 72) hx hb dX0_taken_30 (by rw [hc1]; decide) (by rw [hc1]; decide) (by rw [hc1]; rfl) (by decide) ?_
        refine zr_aload_n (r := r_18) hx hb dX0_taken_72 rfl (lv_at hl 0 rfl) ?_
        obtain ⟨a_42, ci_43, fs_44, er, he, hc, hw⟩ := zo_e hw
        by_cases hin9 : ci_43 ∈ ([6, 8] : List Nat)
        · have hw := hw.1 hin9
          refine zw_cast (r := r_18) hk hH q2054 (fun a9 e9 => by cases er.symm.trans e9; exact ⟨_, _, he, hin9⟩) cw_WhatIfSheet_Whole dX0_taken_73 ?_
          obtain ⟨hcl, hsl, hw⟩ := hw
          obtain ⟨a_38, ci_39, fs_40, er, he, hc, PP_41, hPP, hw⟩ := zo_e hw
          have hC : ∀ (x_37 : Int32) (hp_35 : zHp) (nx_36 : Nat), PP_41 x_37 hp_35 nx_36 → ∀ (H : Heap) (locs : List Loc), zHd g hp_35 H → H.size = nx_36 → va_S (zAd g) s.heap H locs → W p l e (zrm (d + 1) mc ms) s m ([.ref h0, .int x1, .int x2] : List Value).toArray below meth c H locs (0 + 0) (0 + 0) (MQ below (zQi g Post) ([.ref h0, .int x1, .int x2] : List Value).toArray s mc ms (zAd g)) (F0 m 79 ls [.int x_37]) := by
            intro x_37 hp_35 nx_36 hw H locs hH hz hS
            have hw := hPP x_37 hp_35 nx_36 hw
            obtain ⟨hkc, hks, hw⟩ := hw
            exact zr_iret hk hr hH hz hS hw hkc hks dX0_taken_79
          simp only [List.mem_cons, List.not_mem_nil, or_false] at hc
          rcases hc with rfl | rfl
          · exact zr_calli (zw_runV (As := []) hk hH hz hS hl.1 er (hw.1 rfl) (cwV 0 hts (lw_V q2334 q2048 q3370 q163 q2049) rfl rfl rfl (by decide +kernel) (z_room (Nat.le_of_ble_eq_true rfl))) he rfl rfl rfl (Nat.le_of_ble_eq_true rfl) dX0_taken_76 ⟨hcl, hsl⟩) hS hC
          · exact zr_calli (zw_runU (As := []) hk hH hz hS hl.1 er (hw.2 rfl) (va_cwO 0 hts (z_O q2334 q3368 q2048 q3369 q2042 q165 q2043) rfl rfl rfl q2049 (by decide +kernel) (z_room (Nat.le_of_ble_eq_true rfl))) he rfl rfl rfl (Nat.le_of_ble_eq_true rfl) dX0_taken_76 ⟨hcl, hsl⟩) hS hC
        · obtain ⟨C9, T9, N9, hci, hno, hp1, hp2⟩ := cn_WhatIfSheet_Whole (ci := ci_43) (by simp only [List.mem_cons, List.not_mem_nil, or_false] at hc hin9 ⊢; omega)
          have hw := hw.2 hin9
          obtain ⟨hT, h160, hkc, hks, hw⟩ := hw
          refine zv_castO (r := r_18) (nm := "WhatIfSheet$Whole") hk hT hM hH hz hS hl.1 er he hci q2054 hno ⟨hp1, hp2⟩ ⟨by decide +kernel, by decide +kernel⟩ h160 (by first | exact Nat.le_of_ble_eq_true rfl | (simp only [List.map_cons, List.map_nil, z_cat]; exact Nat.le_of_ble_eq_true rfl)) hkc hks dX0_taken_73 (fun H q_45 nx_46 hle hH hz hS hq => ?_)
          have hw := hw q_45 nx_46 hle
          refine zv_catch hk hq (name := "java/lang/ClassCastException") (tableOf [(29, 71, 112, 445)]) ⟨72, 79, 112, 445⟩ (tableOf [(80, 87, 112, 445), (88, 95, 112, 445), (96, 103, 112, 445), (104, 111, 112, 445)]) htb (by intro z hz; simp only [tableOf, List.map_cons, List.map_nil, List.mem_cons, List.not_mem_nil, or_false] at hz; rcases hz with rfl; exact Or.inl (by decide)) (by decide) (by decide) q2320 q2332 ?_
          exact hJ_112 r_18 (some q_45) hp_8 nx_46 (0 + 3) (0 + 1010) _ _ _ hw (lv_sub hl [1, 2, 3, 0] rfl) hH hz hS
      by_cases hc2 : x2 = (2 : Int32)
      · have hw := hw.2.2.1 hc2
        refine lv_tableIn (tgt := 80) hx hb dX0_taken_30 (by rw [hc2]; decide) (by rw [hc2]; decide) (by rw [hc2]; rfl) (by decide) ?_
        refine zr_aload_n (r := r_18) hx hb dX0_taken_80 rfl (lv_at hl 0 rfl) ?_
        obtain ⟨a_54, ci_55, fs_56, er, he, hc, hw⟩ := zo_e hw
        by_cases hin9 : ci_55 ∈ ([7, 9] : List Nat)
        · have hw := hw.1 hin9
          refine zw_cast (r := r_18) hk hH q2063 (fun a9 e9 => by cases er.symm.trans e9; exact ⟨_, _, he, hin9⟩) cw_WhatIfSheet_Single dX0_taken_81 ?_
          obtain ⟨hcl, hsl, hw⟩ := hw
          obtain ⟨a_50, ci_51, fs_52, er, he, hc, PP_53, hPP, hw⟩ := zo_e hw
          have hC : ∀ (x_49 : Int32) (hp_47 : zHp) (nx_48 : Nat), PP_53 x_49 hp_47 nx_48 → ∀ (H : Heap) (locs : List Loc), zHd g hp_47 H → H.size = nx_48 → va_S (zAd g) s.heap H locs → W p l e (zrm (d + 1) mc ms) s m ([.ref h0, .int x1, .int x2] : List Value).toArray below meth c H locs (0 + 0) (0 + 0) (MQ below (zQi g Post) ([.ref h0, .int x1, .int x2] : List Value).toArray s mc ms (zAd g)) (F0 m 87 ls [.int x_49]) := by
            intro x_49 hp_47 nx_48 hw H locs hH hz hS
            have hw := hPP x_49 hp_47 nx_48 hw
            obtain ⟨hkc, hks, hw⟩ := hw
            exact zr_iret hk hr hH hz hS hw hkc hks dX0_taken_87
          simp only [List.mem_cons, List.not_mem_nil, or_false] at hc
          rcases hc with rfl | rfl
          · exact zr_calli (zw_runV (As := []) hk hH hz hS hl.1 er (hw.1 rfl) (cwV 0 hts (lw_V q2335 q2039 q3372 q164 q2040) rfl rfl rfl (by decide +kernel) (z_room (Nat.le_of_ble_eq_true rfl))) he rfl rfl rfl (Nat.le_of_ble_eq_true rfl) dX0_taken_84 ⟨hcl, hsl⟩) hS hC
          · exact zr_calli (zw_runU (As := []) hk hH hz hS hl.1 er (hw.2 rfl) (va_cwO 0 hts (z_O q2335 q3371 q2039 q3373 q2045 q166 q2046) rfl rfl rfl q2040 (by decide +kernel) (z_room (Nat.le_of_ble_eq_true rfl))) he rfl rfl rfl (Nat.le_of_ble_eq_true rfl) dX0_taken_84 ⟨hcl, hsl⟩) hS hC
        · obtain ⟨C9, T9, N9, hci, hno, hp1, hp2⟩ := cn_WhatIfSheet_Single (ci := ci_55) (by simp only [List.mem_cons, List.not_mem_nil, or_false] at hc hin9 ⊢; omega)
          have hw := hw.2 hin9
          obtain ⟨hT, h160, hkc, hks, hw⟩ := hw
          refine zv_castO (r := r_18) (nm := "WhatIfSheet$Single") hk hT hM hH hz hS hl.1 er he hci q2063 hno ⟨hp1, hp2⟩ ⟨by decide +kernel, by decide +kernel⟩ h160 (by first | exact Nat.le_of_ble_eq_true rfl | (simp only [List.map_cons, List.map_nil, z_cat]; exact Nat.le_of_ble_eq_true rfl)) hkc hks dX0_taken_81 (fun H q_57 nx_58 hle hH hz hS hq => ?_)
          have hw := hw q_57 nx_58 hle
          refine zv_catch hk hq (name := "java/lang/ClassCastException") (tableOf [(29, 71, 112, 445), (72, 79, 112, 445)]) ⟨80, 87, 112, 445⟩ (tableOf [(88, 95, 112, 445), (96, 103, 112, 445), (104, 111, 112, 445)]) htb (by intro z hz; simp only [tableOf, List.map_cons, List.map_nil, List.mem_cons, List.not_mem_nil, or_false] at hz; rcases hz with rfl | rfl; all_goals exact Or.inl (by decide)) (by decide) (by decide) q2320 q2332 ?_
          exact hJ_112 r_18 (some q_57) hp_8 nx_58 (0 + 3) (0 + 1010) _ _ _ hw (lv_sub hl [1, 2, 3, 0] rfl) hH hz hS
      by_cases hc3 : x2 = (3 : Int32)
      · have hw := hw.2.2.2.1 hc3
        refine lv_tableIn (tgt := 88) hx hb dX0_taken_30 (by rw [hc3]; decide) (by rw [hc3]; decide) (by rw [hc3]; rfl) (by decide) ?_
        refine zr_aload_n (r := r_18) hx hb dX0_taken_88 rfl (lv_at hl 0 rfl) ?_
        obtain ⟨a_65, ci_66, fs_67, er, he, hc, hw⟩ := zo_e hw
        by_cases hin9 : ci_66 ∈ ([8] : List Nat)
        · have hw := hw.1 hin9
          refine zw_cast (r := r_18) hk hH q2072 (fun a9 e9 => by cases er.symm.trans e9; exact ⟨_, _, he, hin9⟩) cw_WhatIfSheet_Small dX0_taken_89 ?_
          obtain ⟨hcl, hsl, hw⟩ := hw
          obtain ⟨a_62, ci_63, fs_64, er, he, hc, hw⟩ := zo_e hw
          obtain rfl := List.mem_singleton.mp hc
          refine zr_calli (zw_runV (As := []) hk hH hz hS hl.1 er hw (cwV 0 hts (lw_V q2336 q2042 q3374 q165 q2043) rfl rfl rfl (by decide +kernel) (z_room (Nat.le_of_ble_eq_true rfl))) he rfl rfl rfl (Nat.le_of_ble_eq_true rfl) dX0_taken_92 ⟨hcl, hsl⟩) hS (fun x_61 hp_59 nx_60 hw H locs hH hz hS => ?_)
          obtain ⟨hkc, hks, hw⟩ := hw
          exact zr_iret hk hr hH hz hS hw hkc hks dX0_taken_95
        · obtain ⟨C9, T9, N9, hci, hno, hp1, hp2⟩ := cn_WhatIfSheet_Small (ci := ci_66) (by simp only [List.mem_cons, List.not_mem_nil, or_false] at hc hin9 ⊢; omega)
          have hw := hw.2 hin9
          obtain ⟨hT, h160, hkc, hks, hw⟩ := hw
          refine zv_castO (r := r_18) (nm := "WhatIfSheet$Small") hk hT hM hH hz hS hl.1 er he hci q2072 hno ⟨hp1, hp2⟩ ⟨by decide +kernel, by decide +kernel⟩ h160 (by first | exact Nat.le_of_ble_eq_true rfl | (simp only [List.map_cons, List.map_nil, z_cat]; exact Nat.le_of_ble_eq_true rfl)) hkc hks dX0_taken_89 (fun H q_68 nx_69 hle hH hz hS hq => ?_)
          have hw := hw q_68 nx_69 hle
          refine zv_catch hk hq (name := "java/lang/ClassCastException") (tableOf [(29, 71, 112, 445), (72, 79, 112, 445), (80, 87, 112, 445)]) ⟨88, 95, 112, 445⟩ (tableOf [(96, 103, 112, 445), (104, 111, 112, 445)]) htb (by intro z hz; simp only [tableOf, List.map_cons, List.map_nil, List.mem_cons, List.not_mem_nil, or_false] at hz; rcases hz with rfl | rfl | rfl; all_goals exact Or.inl (by decide)) (by decide) (by decide) q2320 q2332 ?_
          exact hJ_112 r_18 (some q_68) hp_8 nx_69 (0 + 3) (0 + 1010) _ _ _ hw (lv_sub hl [1, 2, 3, 0] rfl) hH hz hS
      by_cases hc4 : x2 = (4 : Int32)
      · have hw := hw.2.2.2.2.1 hc4
        refine lv_tableIn (tgt := 96) hx hb dX0_taken_30 (by rw [hc4]; decide) (by rw [hc4]; decide) (by rw [hc4]; rfl) (by decide) ?_
        refine zr_aload_n (r := r_18) hx hb dX0_taken_96 rfl (lv_at hl 0 rfl) ?_
        obtain ⟨a_76, ci_77, fs_78, er, he, hc, hw⟩ := zo_e hw
        by_cases hin9 : ci_77 ∈ ([9] : List Nat)
        · have hw := hw.1 hin9
          refine zw_cast (r := r_18) hk hH q2081 (fun a9 e9 => by cases er.symm.trans e9; exact ⟨_, _, he, hin9⟩) cw_WhatIfSheet_Turn dX0_taken_97 ?_
          obtain ⟨hcl, hsl, hw⟩ := hw
          obtain ⟨a_73, ci_74, fs_75, er, he, hc, hw⟩ := zo_e hw
          obtain rfl := List.mem_singleton.mp hc
          refine zr_calli (zw_runV (As := []) hk hH hz hS hl.1 er hw (cwV 0 hts (lw_V q2337 q2045 q3375 q166 q2046) rfl rfl rfl (by decide +kernel) (z_room (Nat.le_of_ble_eq_true rfl))) he rfl rfl rfl (Nat.le_of_ble_eq_true rfl) dX0_taken_100 ⟨hcl, hsl⟩) hS (fun x_72 hp_70 nx_71 hw H locs hH hz hS => ?_)
          obtain ⟨hkc, hks, hw⟩ := hw
          exact zr_iret hk hr hH hz hS hw hkc hks dX0_taken_103
        · obtain ⟨C9, T9, N9, hci, hno, hp1, hp2⟩ := cn_WhatIfSheet_Turn (ci := ci_77) (by simp only [List.mem_cons, List.not_mem_nil, or_false] at hc hin9 ⊢; omega)
          have hw := hw.2 hin9
          obtain ⟨hT, h160, hkc, hks, hw⟩ := hw
          refine zv_castO (r := r_18) (nm := "WhatIfSheet$Turn") hk hT hM hH hz hS hl.1 er he hci q2081 hno ⟨hp1, hp2⟩ ⟨by decide +kernel, by decide +kernel⟩ h160 (by first | exact Nat.le_of_ble_eq_true rfl | (simp only [List.map_cons, List.map_nil, z_cat]; exact Nat.le_of_ble_eq_true rfl)) hkc hks dX0_taken_97 (fun H q_79 nx_80 hle hH hz hS hq => ?_)
          have hw := hw q_79 nx_80 hle
          refine zv_catch hk hq (name := "java/lang/ClassCastException") (tableOf [(29, 71, 112, 445), (72, 79, 112, 445), (80, 87, 112, 445), (88, 95, 112, 445)]) ⟨96, 103, 112, 445⟩ (tableOf [(104, 111, 112, 445)]) htb (by intro z hz; simp only [tableOf, List.map_cons, List.map_nil, List.mem_cons, List.not_mem_nil, or_false] at hz; rcases hz with rfl | rfl | rfl | rfl; all_goals exact Or.inl (by decide)) (by decide) (by decide) q2320 q2332 ?_
          exact hJ_112 r_18 (some q_79) hp_8 nx_80 (0 + 3) (0 + 1010) _ _ _ hw (lv_sub hl [1, 2, 3, 0] rfl) hH hz hS
      have hw := hw.2.2.2.2.2 ⟨hc0, hc1, hc2, hc3, hc4⟩
      refine lv_tableOut (tgt := 104) hx hb dX0_taken_30 (by have h0 := lv_neT hc0 (a := 0) (by decide); have h1 := lv_neT hc1 (a := 1) (by decide); have h2 := lv_neT hc2 (a := 2) (by decide); have h3 := lv_neT hc3 (a := 3) (by decide); have h4 := lv_neT hc4 (a := 4) (by decide); omega) (by decide) ?_
      refine zr_aload_n (r := r_18) hx hb dX0_taken_104 rfl (lv_at hl 0 rfl) ?_
      obtain ⟨a_87, ci_88, fs_89, er, he, hc, hw⟩ := zo_e hw
      by_cases hin9 : ci_88 ∈ ([10] : List Nat)
      · have hw := hw.1 hin9
        refine zw_cast (r := r_18) hk hH q2090 (fun a9 e9 => by cases er.symm.trans e9; exact ⟨_, _, he, hin9⟩) cw_WhatIfSheet_Capped dX0_taken_105 ?_
        obtain ⟨hcl, hsl, hw⟩ := hw
        obtain ⟨a_84, ci_85, fs_86, er, he, hc, hw⟩ := zo_e hw
        obtain rfl := List.mem_singleton.mp hc
        refine zr_calli (zw_runV (As := []) hk hH hz hS hl.1 er hw (cwV 0 hts (lw_V q2338 q2036 q3376 q167 q2037) rfl rfl rfl (by decide +kernel) (z_room (Nat.le_of_ble_eq_true rfl))) he rfl rfl rfl (Nat.le_of_ble_eq_true rfl) dX0_taken_108 ⟨hcl, hsl⟩) hS (fun x_83 hp_81 nx_82 hw H locs hH hz hS => ?_)
        obtain ⟨hkc, hks, hw⟩ := hw
        exact zr_iret hk hr hH hz hS hw hkc hks dX0_taken_111
      · obtain ⟨C9, T9, N9, hci, hno, hp1, hp2⟩ := cn_WhatIfSheet_Capped (ci := ci_88) (by simp only [List.mem_cons, List.not_mem_nil, or_false] at hc hin9 ⊢; omega)
        have hw := hw.2 hin9
        obtain ⟨hT, h160, hkc, hks, hw⟩ := hw
        refine zv_castO (r := r_18) (nm := "WhatIfSheet$Capped") hk hT hM hH hz hS hl.1 er he hci q2090 hno ⟨hp1, hp2⟩ ⟨by decide +kernel, by decide +kernel⟩ h160 (by first | exact Nat.le_of_ble_eq_true rfl | (simp only [List.map_cons, List.map_nil, z_cat]; exact Nat.le_of_ble_eq_true rfl)) hkc hks dX0_taken_105 (fun H q_90 nx_91 hle hH hz hS hq => ?_)
        have hw := hw q_90 nx_91 hle
        refine zv_catch hk hq (name := "java/lang/ClassCastException") (tableOf [(29, 71, 112, 445), (72, 79, 112, 445), (80, 87, 112, 445), (88, 95, 112, 445), (96, 103, 112, 445)]) ⟨104, 111, 112, 445⟩ (tableOf []) htb (by intro z hz; simp only [tableOf, List.map_cons, List.map_nil, List.mem_cons, List.not_mem_nil, or_false] at hz; rcases hz with rfl | rfl | rfl | rfl | rfl; all_goals exact Or.inl (by decide)) (by decide) (by decide) q2320 q2332 ?_
        exact hJ_112 r_18 (some q_90) hp_8 nx_91 (0 + 3) (0 + 1010) _ _ _ hw (lv_sub hl [1, 2, 3, 0] rfl) hH hz hS
    · have hw := hw.1 hc
      exact hJ_19 hp_8 nx_9 0 0 _ _ _ hw hl hH hz hS
theorem fk_X0_479 {ci : Nat} (h : ci ∈ [3]) : zFk "WhatIfSheet" 479 ci 0 := by
  simp only [List.mem_cons, List.not_mem_nil, or_false] at h
  rcases h with rfl
  · exact ⟨RX3, TX3, 1, rfl, by decide, q676⟩
def wv_X0_tells (l : Launch) (g : zG) (d : Nat) (mc ms : Nat) (h0 : Nat) (x1 : Int32) (x2 : Int32) (x3 : Int32) (x4 : Int32) (hp : zHp) (nx : Nat) (Post : Int32 → zHp → Nat → Prop) : Prop :=
  (0 ≤ mc ∧ 0 ≤ ms ∧ zMt l g yX0_isTable cX0_isTable 1 (some .boolean) d 0 0 [.int x1] hp nx (zQi g fun x_3 hp_1 nx_2 =>
  (∃ P_34 : zHp → Nat → Nat → Nat → Prop, (∀ (hp_4 : zHp) (nx_5 : Nat) (kc_6 : Nat) (ks_7 : Nat), P_34 hp_4 nx_5 kc_6 ks_7 →
  (kc_6 ≤ mc ∧ ks_7 ≤ ms ∧ Post (-2 : Int32) hp_4 nx_5)) ∧
  ((x_3 = 0 →
  P_34 hp_1 nx_2 0 0) ∧
  (¬ x_3 = 0 →
  (0 ≤ mc ∧ 0 ≤ ms ∧ zMt l g yX0_isRow cX0_isRow 1 (some .boolean) d 0 0 [.int x2] hp_1 nx_2 (zQi g fun x_10 hp_8 nx_9 =>
  ((x_10 = 0 →
  P_34 hp_8 nx_9 0 0) ∧
  (¬ x_10 = 0 →
  (0 ≤ mc ∧ 0 ≤ ms ∧ zMt l g yX0_isCell cX0_isCell 1 (some .boolean) d 0 0 [.int x3] hp_8 nx_9 (zQi g fun x_13 hp_11 nx_12 =>
  ((x_13 = 0 →
  P_34 hp_11 nx_12 0 0) ∧
  (¬ x_13 = 0 →
  (0 ≤ mc ∧ 0 ≤ ms ∧ zMt l g yX0_in cX0_in 6 (some .boolean) d 0 0 [.long x4.toInt64, .long (0 : Int64), .long (3 : Int64)] hp_11 nx_12 (zQi g fun x_16 hp_14 nx_15 =>
  ((x_16 = 0 →
  P_34 hp_14 nx_15 0 0) ∧
  (¬ x_16 = 0 →
  (zgR hp_14 (some h0) [0] 1 fun r_20 =>
  (zaR (g.2.1 8) hp_14 r_20 fun a_21 n_22 f_23 => vp_in x1 n_22 ∧ ∀ r_24 : Option Nat, r_24 = f_23 x1.toNatClampNeg →
  (∃ P_68 : (Option Nat) → zHp → Nat → Nat → Nat → Prop, (∀ (r_25 : Option Nat) (hp_26 : zHp) (nx_27 : Nat) (kc_28 : Nat) (ks_29 : Nat), P_68 r_25 hp_26 nx_27 kc_28 ks_29 →
  (kc_28 ≤ mc ∧ ks_29 ≤ ms ∧ Post (-3 : Int32) hp_26 nx_27)) ∧
  ((r_24 = none →
  P_68 r_24 hp_14 nx_15 0 0) ∧
  (¬ r_24 = none →
  (∃ P_71 : (Option Nat) → zHp → Nat → Nat → Nat → Prop, (∀ (r_30 : Option Nat) (hp_31 : zHp) (nx_32 : Nat) (kc_33 : Nat) (ks_34 : Nat), P_71 r_30 hp_31 nx_32 kc_33 ks_34 →
  (zgR hp_31 (some h0) [0] 29 fun r_38 =>
  (zaR (g.2.1 12) hp_31 r_38 fun a_39 n_40 f_41 => vp_in x2 n_40 ∧ ∀ r_42 : Option Nat, r_42 = f_41 x2.toNatClampNeg →
  (zgR hp_31 r_42 [3] 0 fun r_46 =>
  ((r_46 = none →
  (kc_33 ≤ mc ∧ ks_34 ≤ ms ∧ Post (-11 : Int32) hp_31 nx_32)) ∧
  (¬ r_46 = none →
  (zgR hp_31 (some h0) [0] 29 fun r_50 =>
  (zaR (g.2.1 12) hp_31 r_50 fun a_51 n_52 f_53 => vp_in x2 n_52 ∧ ∀ r_54 : Option Nat, r_54 = f_53 x2.toNatClampNeg →
  (zgR hp_31 r_54 [3] 0 fun r_58 =>
  (zIA g hp_31 r_58 1 fun x_96 => ((x_96 = 1 → (zln (g.2.1 1) hp_31 r_58 fun x_61 =>
  (kc_33 ≤ mc ∧ ks_34 ≤ ms ∧ zo hp_31 r_30 [31] fun a_92 ci_93 fs_94 => zMt l g yX31_cases cX31_cases 1 (some .int) d 0 0 (.ref a_92 :: []) hp_31 nx_32 (zQi g fun x_64 hp_62 nx_63 =>
  ((x_61 = x_64 →
  (∃ P_167 : (Option Nat) → (Option Nat) → Int32 → zHp → Nat → Nat → Nat → Prop, (∀ (r_65 : Option Nat) (r_66 : Option Nat) (x_67 : Int32) (hp_68 : zHp) (nx_69 : Nat) (kc_70 : Nat) (ks_71 : Nat), P_167 r_65 r_66 x_67 hp_68 nx_69 kc_70 ks_71 →
  (kc_70 ≤ mc ∧ ks_71 ≤ ms ∧ Post x_67 hp_68 nx_69)) ∧
  ((x4 = 0 →
  (kc_33 ≤ mc ∧ ks_34 ≤ ms ∧ zo hp_62 (some h0) [0] fun a_89 ci_90 fs_91 => zMt l g yX0_first cX0_first 6 (some .int) d 0 0 (.ref a_89 :: [va_rf r_30, va_rf r_58]) hp_62 nx_63 (zQi g fun x_88 hp_86 nx_87 =>
  P_167 r_30 r_58 x_88 hp_86 nx_87 kc_33 ks_34))) ∧
  (¬ x4 = 0 →
  ((x4 = (1 : Int32) →
  (∃ c_78 s_79 : Nat, kc_33 + c_78 ≤ mc ∧ ks_34 + s_79 ≤ ms ∧ zo hp_62 (some h0) [0] fun a_83 ci_84 fs_85 => zMtW l g yX0_kindsOf cX0_kindsOf 8 (some .int) [(11, 63, 74, 0), (74, 76, 74, 0)] d c_78 s_79 (.ref a_83 :: [va_rf r_30, va_rf r_58, .int x3]) hp_62 nx_63 (zQi g fun x_82 hp_80 nx_81 =>
  P_167 r_30 r_58 x_82 hp_80 nx_81 (kc_33 + c_78) (ks_34 + s_79)))) ∧
  (¬ x4 = (1 : Int32) →
  (kc_33 ≤ mc ∧ ks_34 ≤ ms ∧ zo hp_62 (some h0) [0] fun a_75 ci_76 fs_77 => zMtW l g yX0_numbersOf cX0_numbersOf 12 (some .int) [(21, 75, 85, 0), (85, 87, 85, 0)] d 0 0 (.ref a_75 :: [va_rf r_30, va_rf r_58, .int x3, .int x4]) hp_62 nx_63 (zQi g fun x_74 hp_72 nx_73 =>
  P_167 r_30 r_58 x_74 hp_72 nx_73 kc_33 ks_34)))))))) ∧
  (¬ x_61 = x_64 →
  (kc_33 ≤ mc ∧ ks_34 ≤ ms ∧ Post (-2 : Int32) hp_62 nx_63))))))) ∧ (x_96 = 0 → (l.stackTraces = false ∧ 160 ≤ d ∧ (kc_33 + 3) ≤ mc ∧ (ks_34 + 1010) ≤ ms ∧ ∀ q_99 nx_100 : Nat, nx_32 ≤ nx_100 →
  ((kc_33 + 3) ≤ mc ∧ (ks_34 + 1010) ≤ ms ∧ Post (-13 : Int32) hp_31 nx_100)))))))))))))) ∧
  ((x4 ≤ (1 : Int32) →
  P_71 r_24 hp_14 nx_15 0 0) ∧
  (¬ x4 ≤ (1 : Int32) →
  (zgR hp_14 (some h0) [0] 0 fun r_104 =>
  (zaR (g.2.1 7) hp_14 r_104 fun a_105 n_106 f_107 => vp_in x3 n_106 ∧ ∀ r_108 : Option Nat, r_108 = f_107 x3.toNatClampNeg →
  (0 ≤ mc ∧ 0 ≤ ms ∧ zo hp_14 r_108 [2, 6, 7, 8, 9, 10] fun a_112 ci_113 fs_114 => ∃ PP_115 : Int32 → zHp → Nat → Prop, (∀ (x_111 : Int32) (hp_109 : zHp) (nx_110 : Nat), PP_115 x_111 hp_109 nx_110 →
  ((x_111 = 0 →
  P_68 r_24 hp_109 nx_110 0 0) ∧
  (¬ x_111 = 0 →
  P_71 r_24 hp_109 nx_110 0 0))) ∧ zMt l g yX2_isInput cX2_isInput 1 (some .boolean) d 0 0 (.ref a_112 :: []) hp_14 nx_15 (zQi g PP_115)))))))))))))))))))))))))))))
set_option maxHeartbeats 40000000 in
theorem mv_X0_tells {l : Launch} {g : zG} {d : Nat} {mc ms : Nat} {h0 : Nat} {x1 : Int32} {x2 : Int32} {x3 : Int32} {x4 : Int32} {hp : zHp} {nx : Nat} {Post : Int32 → zHp → Nat → Prop} (hw : wv_X0_tells l g d mc ms h0 x1 x2 x3 x4 hp nx Post) : zMtW l g yX0_tells cX0_tells 8 (some .int) [(86, 100, 103, 445)] (d + 1) mc ms [.ref h0, .int x1, .int x2, .int x3, .int x4] hp nx (zQi g Post) := by
  refine z_startT (by decide) (Nat.le_of_ble_eq_true rfl) ?_
  intro p e s m below meth c hk hr hin htb hH hz ls hl
  have hx := hk.1.1
  have hb := hk.1.2.1
  have hown := hk.1.2.2.2.1
  have hts := hk.1.2.2.2.2
  have hS : va_S (zAd g) s.heap s.heap [] := va_S.rf
  have hl : lv_has ls 8 [(0, va_rf (some h0)), (1, .int x1), (2, .int x2), (3, .int x3), (4, .int x4)] := hl
  unfold wv_X0_tells at hw
  refine lv_iload_n hx hb dX0_tells_0 rfl (lv_at hl 1 rfl) ?_
  obtain ⟨hcl, hsl, hw⟩ := hw
  refine zr_calli (zr_runS (As := [.int x1]) hk hH hz hS hl.1 hw (va_cwS 1 hts (lw_S q2343 q2344 q131 q2345) rfl rfl rfl (by decide +kernel) (z_room (Nat.le_of_ble_eq_true rfl))) rfl rfl (Nat.le_of_ble_eq_true rfl) dX0_tells_1 ⟨hcl, hsl⟩) hS (fun x_3 hp_1 nx_2 hw H locs hH hz hS => ?_)
  obtain ⟨P_34, hP_34, hw⟩ := hw
  have hJ_34 : ∀ (hp_4 : zHp) (nx_5 : Nat) (kc_6 : Nat) (ks_7 : Nat) (H : Heap) (locs : List Loc) (ls : Array Slot), P_34 hp_4 nx_5 kc_6 ks_7 → lv_has ls 8 [(0, va_rf (some h0)), (1, .int x1), (2, .int x2), (3, .int x3), (4, .int x4)] → zHd g hp_4 H → H.size = nx_5 → va_S (zAd g) s.heap H locs → W p l e (zrm (d + 1) mc ms) s m ([.ref h0, .int x1, .int x2, .int x3, .int x4] : List Value).toArray below meth c H locs kc_6 ks_7 (MQ below (zQi g Post) ([.ref h0, .int x1, .int x2, .int x3, .int x4] : List Value).toArray s mc ms (zAd g)) (F0 m 34 ls []) := by
    intro hp_4 nx_5 kc_6 ks_7 H locs ls hw hl hH hz hS
    have hw := hP_34 hp_4 nx_5 kc_6 ks_7 hw
    refine lv_bipush (v := (-2 : Int32)) hx hb dX0_tells_34 (by decide) ?_
    obtain ⟨hkc, hks, hw⟩ := hw
    exact zr_iret hk hr hH hz hS hw hkc hks dX0_tells_36
  refine lv_if_eq (tgt := 34) hx hb dX0_tells_4 (by decide) (fun hc => ?_) (fun hc => ?_)
  · have hw := hw.1 hc
    exact hJ_34 hp_1 nx_2 0 0 _ _ _ hw hl hH hz hS
  · have hw := hw.2 hc
    refine lv_iload_n hx hb dX0_tells_7 rfl (lv_at hl 2 rfl) ?_
    obtain ⟨hcl, hsl, hw⟩ := hw
    refine zr_calli (zr_runS (As := [.int x2]) hk hH hz hS hl.1 hw (va_cwS 1 hts (lw_S q2425 q2426 q131 q2427) rfl rfl rfl (by decide +kernel) (z_room (Nat.le_of_ble_eq_true rfl))) rfl rfl (Nat.le_of_ble_eq_true rfl) dX0_tells_8 ⟨hcl, hsl⟩) hS (fun x_10 hp_8 nx_9 hw H locs hH hz hS => ?_)
    refine lv_if_eq (tgt := 34) hx hb dX0_tells_11 (by decide) (fun hc => ?_) (fun hc => ?_)
    · have hw := hw.1 hc
      exact hJ_34 hp_8 nx_9 0 0 _ _ _ hw hl hH hz hS
    · have hw := hw.2 hc
      refine lv_iload_n hx hb dX0_tells_14 rfl (lv_at hl 3 rfl) ?_
      obtain ⟨hcl, hsl, hw⟩ := hw
      refine zr_calli (zr_runS (As := [.int x3]) hk hH hz hS hl.1 hw (va_cwS 1 hts (lw_S q1317 q1318 q131 q1319) rfl rfl rfl (by decide +kernel) (z_room (Nat.le_of_ble_eq_true rfl))) rfl rfl (Nat.le_of_ble_eq_true rfl) dX0_tells_15 ⟨hcl, hsl⟩) hS (fun x_13 hp_11 nx_12 hw H locs hH hz hS => ?_)
      refine lv_if_eq (tgt := 34) hx hb dX0_tells_18 (by decide) (fun hc => ?_) (fun hc => ?_)
      · have hw := hw.1 hc
        exact hJ_34 hp_11 nx_12 0 0 _ _ _ hw hl hH hz hS
      · have hw := hw.2 hc
        refine lv_iload hx hb dX0_tells_21 (lv_at hl 4 rfl) ?_
        refine lv_i2l hx hb dX0_tells_23 rfl ?_
        refine lv_lconst (v := (0 : Int64)) hx hb dX0_tells_24 (by decide) ?_
        refine lv_ldc2 hx hb hown (hts _ q2428) dX0_tells_25 ?_
        obtain ⟨hcl, hsl, hw⟩ := hw
        refine zr_calli (zr_runS (As := [.long x4.toInt64, .long (0 : Int64), .long (3 : Int64)]) hk hH hz hS hl.1 hw (va_cwS 3 hts (lw_S q1308 q1309 q131 q1310) rfl rfl rfl (by decide +kernel) (z_room (Nat.le_of_ble_eq_true rfl))) rfl rfl (Nat.le_of_ble_eq_true rfl) dX0_tells_28 ⟨hcl, hsl⟩) hS (fun x_16 hp_14 nx_15 hw H locs hH hz hS => ?_)
        refine lv_if_ne (tgt := 37) hx hb dX0_tells_31 (by decide) (fun hc => ?_) (fun hc => ?_)
        · have hw := hw.2 hc
          refine zr_aload_n (r := some h0) hx hb dX0_tells_37 rfl (lv_at hl 0 rfl) ?_
          obtain ⟨a_17, ci_18, fs_19, r_20, er, he, hc, hv, hw⟩ := zgR_e hw
          refine zw_get hk hH er he hv (fk_X0_37 hc) dX0_tells_38 ?_
          refine lv_iload_n hx hb dX0_tells_41 rfl (lv_at hl 1 rfl) ?_
          obtain ⟨a_21, n_22, f_23, er, he, hi, hw⟩ := zaR_e hw
          have hw := hw _ rfl
          refine zw_aald hk hH 8 er he rfl rfl hi dX0_tells_42 ?_
          generalize f_23 x1.toNatClampNeg = r_24 at hw ⊢
          refine zr_astore (r := r_24) (lv' := [(5, va_rf r_24), (0, va_rf (some h0)), (1, .int x1), (2, .int x2), (3, .int x3), (4, .int x4)]) hx hb dX0_tells_43 hl (by decide) (by first | rfl | simp [List.filter_cons, z_cat, z_catI, z_catJ, z_catF, z_catD]) (fun ls hl => ?_)
          refine zr_aload (r := r_24) hx hb dX0_tells_45 (lv_at hl 0 rfl) ?_
          obtain ⟨P_68, hP_68, hw⟩ := hw
          have hJ_68 : ∀ (r_25 : Option Nat) (hp_26 : zHp) (nx_27 : Nat) (kc_28 : Nat) (ks_29 : Nat) (H : Heap) (locs : List Loc) (ls : Array Slot), P_68 r_25 hp_26 nx_27 kc_28 ks_29 → lv_has ls 8 [(0, va_rf (some h0)), (1, .int x1), (2, .int x2), (3, .int x3), (4, .int x4), (5, va_rf r_25)] → zHd g hp_26 H → H.size = nx_27 → va_S (zAd g) s.heap H locs → W p l e (zrm (d + 1) mc ms) s m ([.ref h0, .int x1, .int x2, .int x3, .int x4] : List Value).toArray below meth c H locs kc_28 ks_29 (MQ below (zQi g Post) ([.ref h0, .int x1, .int x2, .int x3, .int x4] : List Value).toArray s mc ms (zAd g)) (F0 m 68 ls []) := by
            intro r_25 hp_26 nx_27 kc_28 ks_29 H locs ls hw hl hH hz hS
            have hw := hP_68 r_25 hp_26 nx_27 kc_28 ks_29 hw
            refine lv_bipush (v := (-3 : Int32)) hx hb dX0_tells_68 (by decide) ?_
            obtain ⟨hkc, hks, hw⟩ := hw
            exact zr_iret hk hr hH hz hS hw hkc hks dX0_tells_70
          refine zr_ifnull (r := r_24) (tgt := 68) hx hb dX0_tells_47 (by decide) (fun hc => ?_) (fun hc => ?_)
          · have hw := hw.1 hc
            exact hJ_68 r_24 hp_14 nx_15 0 0 _ _ _ hw (lv_sub hl [1, 2, 3, 4, 5, 0] rfl) hH hz hS
          · have hw := hw.2 hc
            refine lv_iload hx hb dX0_tells_50 (lv_at hl 5 rfl) ?_
            refine lv_iconst (v := (1 : Int32)) hx hb dX0_tells_52 (by decide) ?_
            obtain ⟨P_71, hP_71, hw⟩ := hw
            have hJ_71 : ∀ (r_30 : Option Nat) (hp_31 : zHp) (nx_32 : Nat) (kc_33 : Nat) (ks_34 : Nat) (H : Heap) (locs : List Loc) (ls : Array Slot), P_71 r_30 hp_31 nx_32 kc_33 ks_34 → lv_has ls 8 [(0, va_rf (some h0)), (1, .int x1), (2, .int x2), (3, .int x3), (4, .int x4), (5, va_rf r_30)] → zHd g hp_31 H → H.size = nx_32 → va_S (zAd g) s.heap H locs → W p l e (zrm (d + 1) mc ms) s m ([.ref h0, .int x1, .int x2, .int x3, .int x4] : List Value).toArray below meth c H locs kc_33 ks_34 (MQ below (zQi g Post) ([.ref h0, .int x1, .int x2, .int x3, .int x4] : List Value).toArray s mc ms (zAd g)) (F0 m 71 ls []) := by
              intro r_30 hp_31 nx_32 kc_33 ks_34 H locs ls hw hl hH hz hS
              have hw := hP_71 r_30 hp_31 nx_32 kc_33 ks_34 hw
              refine zr_aload_n (r := some h0) hx hb dX0_tells_71 rfl (lv_at hl 0 rfl) ?_
              obtain ⟨a_35, ci_36, fs_37, r_38, er, he, hc, hv, hw⟩ := zgR_e hw
              refine zw_get hk hH er he hv (fk_X0_121 hc) dX0_tells_72 ?_
              refine lv_iload_n hx hb dX0_tells_75 rfl (lv_at hl 2 rfl) ?_
              obtain ⟨a_39, n_40, f_41, er, he, hi, hw⟩ := zaR_e hw
              have hw := hw _ rfl
              refine zw_aald hk hH 12 er he rfl rfl hi dX0_tells_76 ?_
              generalize f_41 x2.toNatClampNeg = r_42 at hw ⊢
              obtain ⟨a_43, ci_44, fs_45, r_46, er, he, hc, hv, hw⟩ := zgR_e hw
              refine zw_get hk hH er he hv (fk_X0_479 hc) dX0_tells_77 ?_
              refine zr_ifnonnull (r := r_46) (tgt := 86) hx hb dX0_tells_80 (by decide) (fun hc => ?_) (fun hc => ?_)
              · have hw := hw.2 hc
                refine zr_aload_n (r := some h0) hx hb dX0_tells_86 rfl (lv_at hl 0 rfl) ?_
                obtain ⟨a_47, ci_48, fs_49, r_50, er, he, hc, hv, hw⟩ := zgR_e hw
                refine zw_get hk hH er he hv (fk_X0_121 hc) dX0_tells_87 ?_
                refine lv_iload_n hx hb dX0_tells_90 rfl (lv_at hl 2 rfl) ?_
                obtain ⟨a_51, n_52, f_53, er, he, hi, hw⟩ := zaR_e hw
                have hw := hw _ rfl
                refine zw_aald hk hH 12 er he rfl rfl hi dX0_tells_91 ?_
                generalize f_53 x2.toNatClampNeg = r_54 at hw ⊢
                obtain ⟨a_55, ci_56, fs_57, r_58, er, he, hc, hv, hw⟩ := zgR_e hw
                refine zw_get hk hH er he hv (fk_X0_479 hc) dX0_tells_92 ?_
                obtain ⟨a_95, v_97, er, ⟨he, hw⟩ | ⟨j_98, hj, hjt, he, hw⟩⟩ := hw
                · have hw := hw.1 rfl
                  refine zw_castA (r := r_58) (ty := .double) hk hH 1 q2429 rfl (fun _ _ h => h) (fun a9 e9 => by cases er.symm.trans e9; exact ⟨_, he⟩) dX0_tells_95 ?_
                  refine zr_astore (r := r_58) (lv' := [(6, va_rf r_58), (0, va_rf (some h0)), (1, .int x1), (2, .int x2), (3, .int x3), (4, .int x4), (5, va_rf r_30)]) hx hb dX0_tells_98 hl (by decide) (by first | rfl | simp [List.filter_cons, z_cat, z_catI, z_catJ, z_catF, z_catD]) (fun ls hl => ?_)
                  refine lv_goto (tgt := 108) hx hb dX0_tells_100 (by decide) ?_
                  refine zr_aload (r := r_58) hx hb dX0_tells_108 (lv_at hl 0 rfl) ?_
                  obtain ⟨a_59, v_60, er, he, hw⟩ := zln_e hw
                  refine zw_alen hk hH 1 er he rfl dX0_tells_110 ?_
                  generalize Int32.ofNat v_60.1 = x_61 at hw ⊢
                  refine zr_aload (r := r_30) hx hb dX0_tells_111 (lv_at hl 6 rfl) ?_
                  obtain ⟨hcl, hsl, hw⟩ := hw
                  obtain ⟨a_92, ci_93, fs_94, er, he, hc, hw⟩ := zo_e hw
                  obtain rfl := List.mem_singleton.mp hc
                  refine zr_calli (zw_runV (As := []) hk hH hz hS hl.1 er hw (cwV 0 hts (lw_V q1168 q1169 q1170 q195 q1171) rfl rfl rfl (by decide +kernel) (z_room (Nat.le_of_ble_eq_true rfl))) he rfl rfl rfl (Nat.le_of_ble_eq_true rfl) dX0_tells_113 ⟨hcl, hsl⟩) hS (fun x_64 hp_62 nx_63 hw H locs hH hz hS => ?_)
                  refine lv_icmp_eq (tgt := 122) hx hb dX0_tells_116 (by decide) (fun hc => ?_) (fun hc => ?_)
                  · have hw := hw.1 hc
                    refine lv_iload hx hb dX0_tells_122 (lv_at hl 5 rfl) ?_
                    obtain ⟨P_167, hP_167, hw⟩ := hw
                    have hJ_167 : ∀ (r_65 : Option Nat) (r_66 : Option Nat) (x_67 : Int32) (hp_68 : zHp) (nx_69 : Nat) (kc_70 : Nat) (ks_71 : Nat) (H : Heap) (locs : List Loc) (ls : Array Slot), P_167 r_65 r_66 x_67 hp_68 nx_69 kc_70 ks_71 → lv_has ls 8 [(0, va_rf (some h0)), (1, .int x1), (2, .int x2), (3, .int x3), (4, .int x4), (5, va_rf r_65), (6, va_rf r_66)] → zHd g hp_68 H → H.size = nx_69 → va_S (zAd g) s.heap H locs → W p l e (zrm (d + 1) mc ms) s m ([.ref h0, .int x1, .int x2, .int x3, .int x4] : List Value).toArray below meth c H locs kc_70 ks_71 (MQ below (zQi g Post) ([.ref h0, .int x1, .int x2, .int x3, .int x4] : List Value).toArray s mc ms (zAd g)) (F0 m 167 ls [.int x_67]) := by
                      intro r_65 r_66 x_67 hp_68 nx_69 kc_70 ks_71 H locs ls hw hl hH hz hS
                      have hw := hP_167 r_65 r_66 x_67 hp_68 nx_69 kc_70 ks_71 hw
                      obtain ⟨hkc, hks, hw⟩ := hw
                      exact zr_iret hk hr hH hz hS hw hkc hks dX0_tells_167
                    refine lv_if_ne (tgt := 138) hx hb dX0_tells_124 (by decide) (fun hc => ?_) (fun hc => ?_)
                    · have hw := hw.2 hc
                      refine lv_iload hx hb dX0_tells_138 (lv_at hl 5 rfl) ?_
                      refine lv_iconst (v := (1 : Int32)) hx hb dX0_tells_140 (by decide) ?_
                      refine lv_icmp_ne (tgt := 156) hx hb dX0_tells_141 (by decide) (fun hc => ?_) (fun hc => ?_)
                      · have hw := hw.2 hc
                        refine zr_aload_n (r := some h0) hx hb dX0_tells_156 rfl (lv_at hl 1 rfl) ?_
                        refine zr_aload (r := r_30) hx hb dX0_tells_157 (lv_at hl 6 rfl) ?_
                        refine zr_aload (r := r_58) hx hb dX0_tells_159 (lv_at hl 0 rfl) ?_
                        refine lv_iload_n hx hb dX0_tells_161 rfl (lv_at hl 4 rfl) ?_
                        refine lv_iload hx hb dX0_tells_162 (lv_at hl 5 rfl) ?_
                        obtain ⟨hcl, hsl, hw⟩ := hw
                        obtain ⟨a_75, ci_76, fs_77, er, he, hc, hw⟩ := zo_e hw
                        obtain rfl := List.mem_singleton.mp hc
                        refine zr_calli (zw_runVW (As := [va_rf r_30, va_rf r_58, .int x3, .int x4]) hk hH hz hS hl.1 er hw (vx_cwVW 4 hts (lw_VW q2588 q2590 qs67 q131 q2591) rfl rfl rfl (by decide +kernel) (z_room (Nat.le_of_ble_eq_true rfl))) he rfl rfl rfl (Nat.le_of_ble_eq_true rfl) dX0_tells_164 ⟨hcl, hsl⟩) hS (fun x_74 hp_72 nx_73 hw H locs hH hz hS => ?_)
                        exact hJ_167 r_30 r_58 x_74 hp_72 nx_73 kc_33 ks_34 _ _ _ hw (lv_sub hl [1, 2, 3, 4, 5, 6, 0] rfl) hH hz hS
                      · have hw := hw.1 hc
                        refine zr_aload_n (r := some h0) hx hb dX0_tells_144 rfl (lv_at hl 1 rfl) ?_
                        refine zr_aload (r := r_30) hx hb dX0_tells_145 (lv_at hl 6 rfl) ?_
                        refine zr_aload (r := r_58) hx hb dX0_tells_147 (lv_at hl 0 rfl) ?_
                        refine lv_iload_n hx hb dX0_tells_149 rfl (lv_at hl 4 rfl) ?_
                        obtain ⟨c_78, s_79, hcl, hsl, hw⟩ := hw
                        obtain ⟨a_83, ci_84, fs_85, er, he, hc, hw⟩ := zo_e hw
                        obtain rfl := List.mem_singleton.mp hc
                        refine zr_calli (zw_runVW (As := [va_rf r_30, va_rf r_58, .int x3]) hk hH hz hS hl.1 er hw (vx_cwVW 3 hts (lw_VW q2584 q2586 qs66 q131 q2587) rfl rfl rfl (by decide +kernel) (z_room (Nat.le_of_ble_eq_true rfl))) he rfl rfl rfl (Nat.le_of_ble_eq_true rfl) dX0_tells_150 ⟨hcl, hsl⟩) hS (fun x_82 hp_80 nx_81 hw H locs hH hz hS => ?_)
                        refine lv_goto (tgt := 167) hx hb dX0_tells_153 (by decide) ?_
                        exact hJ_167 r_30 r_58 x_82 hp_80 nx_81 (kc_33 + c_78) (ks_34 + s_79) _ _ _ hw (lv_sub hl [1, 2, 3, 4, 5, 6, 0] rfl) hH hz hS
                    · have hw := hw.1 hc
                      refine zr_aload_n (r := some h0) hx hb dX0_tells_127 rfl (lv_at hl 1 rfl) ?_
                      refine zr_aload (r := r_30) hx hb dX0_tells_128 (lv_at hl 6 rfl) ?_
                      refine zr_aload (r := r_58) hx hb dX0_tells_130 (lv_at hl 0 rfl) ?_
                      obtain ⟨hcl, hsl, hw⟩ := hw
                      obtain ⟨a_89, ci_90, fs_91, er, he, hc, hw⟩ := zo_e hw
                      obtain rfl := List.mem_singleton.mp hc
                      refine zr_calli (zw_runV (As := [va_rf r_30, va_rf r_58]) hk hH hz hS hl.1 er hw (cwV 2 hts (lw_V q2580 q2582 qs65 q131 q2583) rfl rfl rfl (by decide +kernel) (z_room (Nat.le_of_ble_eq_true rfl))) he rfl rfl rfl (Nat.le_of_ble_eq_true rfl) dX0_tells_132 ⟨hcl, hsl⟩) hS (fun x_88 hp_86 nx_87 hw H locs hH hz hS => ?_)
                      refine lv_goto (tgt := 167) hx hb dX0_tells_135 (by decide) ?_
                      exact hJ_167 r_30 r_58 x_88 hp_86 nx_87 kc_33 ks_34 _ _ _ hw (lv_sub hl [1, 2, 3, 4, 5, 6, 0] rfl) hH hz hS
                  · have hw := hw.2 hc
                    refine lv_bipush (v := (-2 : Int32)) hx hb dX0_tells_119 (by decide) ?_
                    obtain ⟨hkc, hks, hw⟩ := hw
                    exact zr_iret hk hr hH hz hS hw hkc hks dX0_tells_121
                · have hw := hw.2 rfl
                  obtain ⟨hT, h160, hkc, hks, hw⟩ := hw
                  refine zv_castA (r := r_58) hk hT hH hz hS hl.1 hj (by decide) hjt er he q2429 h160 (by first | exact Nat.le_of_ble_eq_true rfl | (simp only [List.map_cons, List.map_nil, z_cat]; exact Nat.le_of_ble_eq_true rfl)) hkc hks dX0_tells_95 (fun H q_99 nx_100 hle hH hz hS hq => ?_)
                  have hw := hw q_99 nx_100 hle
                  refine zv_catch hk hq (name := "java/lang/ClassCastException") (tableOf []) ⟨86, 100, 103, 445⟩ (tableOf []) htb (by intro z hz; cases hz) (by decide) (by decide) q2320 q2332 ?_
                  refine zr_astore (r := some q_99) (lv' := [(7, va_rf (some q_99)), (0, va_rf (some h0)), (1, .int x1), (2, .int x2), (3, .int x3), (4, .int x4), (5, va_rf r_30)]) hx hb dX0_tells_103 hl (by decide) (by first | rfl | simp [List.filter_cons, z_cat, z_catI, z_catJ, z_catF, z_catD]) (fun ls hl => ?_)
                  refine lv_bipush (v := (-13 : Int32)) hx hb dX0_tells_105 (by decide) ?_
                  obtain ⟨hkc, hks, hw⟩ := hw
                  exact zr_iret hk hr hH hz hS hw hkc hks dX0_tells_107
              · have hw := hw.1 hc
                refine lv_bipush (v := (-11 : Int32)) hx hb dX0_tells_83 (by decide) ?_
                obtain ⟨hkc, hks, hw⟩ := hw
                exact zr_iret hk hr hH hz hS hw hkc hks dX0_tells_85
            refine lv_icmp_le (tgt := 71) hx hb dX0_tells_53 (by decide) (fun hc => ?_) (fun hc => ?_)
            · have hw := hw.1 hc
              exact hJ_71 r_24 hp_14 nx_15 0 0 _ _ _ hw (lv_sub hl [1, 2, 3, 4, 5, 0] rfl) hH hz hS
            · have hw := hw.2 hc
              refine zr_aload_n (r := some h0) hx hb dX0_tells_56 rfl (lv_at hl 1 rfl) ?_
              obtain ⟨a_101, ci_102, fs_103, r_104, er, he, hc, hv, hw⟩ := zgR_e hw
              refine zw_get hk hH er he hv (fk_X0_31 hc) dX0_tells_57 ?_
              refine lv_iload_n hx hb dX0_tells_60 rfl (lv_at hl 4 rfl) ?_
              obtain ⟨a_105, n_106, f_107, er, he, hi, hw⟩ := zaR_e hw
              have hw := hw _ rfl
              refine zw_aald hk hH 7 er he rfl rfl hi dX0_tells_61 ?_
              generalize f_107 x3.toNatClampNeg = r_108 at hw ⊢
              obtain ⟨hcl, hsl, hw⟩ := hw
              obtain ⟨a_112, ci_113, fs_114, er, he, hc, PP_115, hPP, hw⟩ := zo_e hw
              have hC : ∀ (x_111 : Int32) (hp_109 : zHp) (nx_110 : Nat), PP_115 x_111 hp_109 nx_110 → ∀ (H : Heap) (locs : List Loc), zHd g hp_109 H → H.size = nx_110 → va_S (zAd g) s.heap H locs → W p l e (zrm (d + 1) mc ms) s m ([.ref h0, .int x1, .int x2, .int x3, .int x4] : List Value).toArray below meth c H locs (0 + 0) (0 + 0) (MQ below (zQi g Post) ([.ref h0, .int x1, .int x2, .int x3, .int x4] : List Value).toArray s mc ms (zAd g)) (F0 m 65 ls [.int x_111]) := by
                intro x_111 hp_109 nx_110 hw H locs hH hz hS
                have hw := hPP x_111 hp_109 nx_110 hw
                refine lv_if_ne (tgt := 71) hx hb dX0_tells_65 (by decide) (fun hc => ?_) (fun hc => ?_)
                · have hw := hw.2 hc
                  exact hJ_71 r_24 hp_109 nx_110 0 0 _ _ _ hw (lv_sub hl [1, 2, 3, 4, 5, 0] rfl) hH hz hS
                · have hw := hw.1 hc
                  exact hJ_68 r_24 hp_109 nx_110 0 0 _ _ _ hw (lv_sub hl [1, 2, 3, 4, 5, 0] rfl) hH hz hS
              simp only [List.mem_cons, List.not_mem_nil, or_false] at hc
              rcases hc with rfl | rfl | rfl | rfl | rfl | rfl
              · exact zr_calli (zw_runV (As := []) hk hH hz hS hl.1 er (hw) (cwV 0 hts (lw_V q1969 q1970 q1971 q152 q1978) rfl rfl rfl (by decide +kernel) (z_room (Nat.le_of_ble_eq_true rfl))) he rfl rfl rfl (Nat.le_of_ble_eq_true rfl) dX0_tells_62 ⟨hcl, hsl⟩) hS hC
              · exact zr_calli (zw_runU (As := []) hk hH hz hS hl.1 er (hw) (va_cwU 0 hts (z_U q1969 q1972 q1977 q1970 q152 q1978) rfl rfl rfl rfl (by decide +kernel) (z_room (Nat.le_of_ble_eq_true rfl))) he rfl rfl rfl (Nat.le_of_ble_eq_true rfl) dX0_tells_62 ⟨hcl, hsl⟩) hS hC
              · exact zr_calli (zw_runU (As := []) hk hH hz hS hl.1 er (hw) (va_cwU 0 hts (z_U q1969 q1972 q1974 q1970 q152 q1978) rfl rfl rfl rfl (by decide +kernel) (z_room (Nat.le_of_ble_eq_true rfl))) he rfl rfl rfl (Nat.le_of_ble_eq_true rfl) dX0_tells_62 ⟨hcl, hsl⟩) hS hC
              · exact zr_calli (zw_runU (As := []) hk hH hz hS hl.1 er (hw) (va_cwU 0 hts (z_U q1969 q1972 q1975 q1970 q152 q1978) rfl rfl rfl rfl (by decide +kernel) (z_room (Nat.le_of_ble_eq_true rfl))) he rfl rfl rfl (Nat.le_of_ble_eq_true rfl) dX0_tells_62 ⟨hcl, hsl⟩) hS hC
              · exact zr_calli (zw_runU (As := []) hk hH hz hS hl.1 er (hw) (va_cwU 0 hts (z_U q1969 q1972 q1976 q1970 q152 q1978) rfl rfl rfl rfl (by decide +kernel) (z_room (Nat.le_of_ble_eq_true rfl))) he rfl rfl rfl (Nat.le_of_ble_eq_true rfl) dX0_tells_62 ⟨hcl, hsl⟩) hS hC
              · exact zr_calli (zw_runU (As := []) hk hH hz hS hl.1 er (hw) (va_cwU 0 hts (z_U q1969 q1972 q1973 q1970 q152 q1978) rfl rfl rfl rfl (by decide +kernel) (z_room (Nat.le_of_ble_eq_true rfl))) he rfl rfl rfl (Nat.le_of_ble_eq_true rfl) dX0_tells_62 ⟨hcl, hsl⟩) hS hC
        · have hw := hw.1 hc
          exact hJ_34 hp_14 nx_15 0 0 _ _ _ hw hl hH hz hS
def wv_X0_axisBy (l : Launch) (g : zG) (d : Nat) (mc ms : Nat) (h0 : Nat) (x1 : Int32) (x2 : Int32) (x3 : Int32) (x4 : Int32) (x5 : Int32) (hp : zHp) (nx : Nat) (Post : Int32 → zHp → Nat → Prop) : Prop :=
  (0 ≤ mc ∧ 0 ≤ ms ∧ zMt l g yX0_isTable cX0_isTable 1 (some .boolean) d 0 0 [.int x1] hp nx (zQi g fun x_3 hp_1 nx_2 =>
  (∃ P_37 : zHp → Nat → Nat → Nat → Prop, (∀ (hp_4 : zHp) (nx_5 : Nat) (kc_6 : Nat) (ks_7 : Nat), P_37 hp_4 nx_5 kc_6 ks_7 →
  (kc_6 ≤ mc ∧ ks_7 ≤ ms ∧ Post (-2 : Int32) hp_4 nx_5)) ∧
  ((x_3 = 0 →
  P_37 hp_1 nx_2 0 0) ∧
  (¬ x_3 = 0 →
  (0 ≤ mc ∧ 0 ≤ ms ∧ zMt l g yX0_in cX0_in 6 (some .boolean) d 0 0 [.long x2.toInt64, .long (0 : Int64), .long (1 : Int64)] hp_1 nx_2 (zQi g fun x_10 hp_8 nx_9 =>
  ((x_10 = 0 →
  P_37 hp_8 nx_9 0 0) ∧
  (¬ x_10 = 0 →
  (0 ≤ mc ∧ 0 ≤ ms ∧ zMt l g yX0_isRow cX0_isRow 1 (some .boolean) d 0 0 [.int x3] hp_8 nx_9 (zQi g fun x_13 hp_11 nx_12 =>
  ((x_13 = 0 →
  P_37 hp_11 nx_12 0 0) ∧
  (¬ x_13 = 0 →
  (0 ≤ mc ∧ 0 ≤ ms ∧ zMt l g yX0_in cX0_in 6 (some .boolean) d 0 0 [.long x5.toInt64, .long (1 : Int64), .long (8 : Int64)] hp_11 nx_12 (zQi g fun x_16 hp_14 nx_15 =>
  ((x_16 = 0 →
  P_37 hp_14 nx_15 0 0) ∧
  (¬ x_16 = 0 →
  (0 ≤ mc ∧ 0 ≤ ms ∧ zo hp_14 (some h0) [0] fun a_102 ci_103 fs_104 => zMt l g yX0_isFixed cX0_isFixed 3 (some .boolean) d 0 0 (.ref a_102 :: [.int x1, .int x2]) hp_14 nx_15 (zQi g fun x_19 hp_17 nx_18 =>
  ((x_19 = 0 →
  (zgR hp_17 (some h0) [0] 29 fun r_23 =>
  (zaR (g.2.1 12) hp_17 r_23 fun a_24 n_25 f_26 => vp_in x3 n_25 ∧ ∀ r_27 : Option Nat, r_27 = f_26 x3.toNatClampNeg →
  (zgR hp_17 r_27 [3] 0 fun r_31 =>
  ((r_31 = none →
  (0 ≤ mc ∧ 0 ≤ ms ∧ Post (-11 : Int32) hp_17 nx_18)) ∧
  (¬ r_31 = none →
  (zna g mc ms hp_17 nx_18 0 0 1 x5 (.inr (.inr (.inr (.inl (fun _ => 0))))) fun hp_32 =>
  ∀ nx_33 kc_34 ks_35 : Nat, nx_33 = (nx_18 + 1) → kc_34 = (0 + 1) → ks_35 = (0 + x5.toNatClampNeg) →
  (zgR hp_32 (some h0) [0] 29 fun r_39 =>
  (zaR (g.2.1 12) hp_32 r_39 fun a_40 n_41 f_42 => vp_in x3 n_41 ∧ ∀ r_43 : Option Nat, r_43 = f_42 x3.toNatClampNeg →
  (zgR hp_32 r_43 [3] 0 fun r_47 =>
  (zIA g hp_32 r_47 1 fun x_97 => ((x_97 = 1 → (∃ I_90 : Nat → (Option Nat) → (Option Nat) → Int32 → zHp → Nat → Nat → Nat → Prop, (∃ n_95, I_90 n_95 (some nx_18) r_47 (0 : Int32) hp_32 nx_33 kc_34 ks_35) ∧ ∀ (n_55 : Nat) (r_48 : Option Nat) (r_49 : Option Nat) (x_50 : Int32) (hp_51 : zHp) (nx_52 : Nat) (kc_53 : Nat) (ks_54 : Nat), I_90 n_55 r_48 r_49 x_50 hp_51 nx_52 kc_53 ks_54 →
  ((x5 ≤ x_50 →
  (∃ I_132 : Nat → (Option Nat) → Int32 → Int32 → zHp → Nat → Nat → Nat → Prop, (∃ n_82, I_132 n_82 r_48 (0 : Int32) x_50 hp_51 nx_52 kc_53 ks_54) ∧ ∀ (n_63 : Nat) (r_56 : Option Nat) (x_57 : Int32) (x_58 : Int32) (hp_59 : zHp) (nx_60 : Nat) (kc_61 : Nat) (ks_62 : Nat), I_132 n_63 r_56 x_57 x_58 hp_59 nx_60 kc_61 ks_62 →
  ((x5 ≤ x_57 →
  (∃ c_64 s_65 : Nat, kc_61 + c_64 ≤ mc ∧ ks_62 + s_65 ≤ ms ∧ zo hp_59 (some h0) [0] fun a_69 ci_70 fs_71 => zMt l g yX0_varies cX0_varies 7 (some .int) d c_64 s_65 (.ref a_69 :: [.int x1, .int x2, va_rf r_56]) hp_59 nx_60 (zQi g fun x_68 hp_66 nx_67 =>
  ((kc_61 + c_64) ≤ mc ∧ (ks_62 + s_65) ≤ ms ∧ Post x_68 hp_66 nx_67)))) ∧
  (¬ x5 ≤ x_57 →
  (zaD (g.2.1 1) hp_59 r_56 fun a_72 n_73 f_74 => vp_in x_57 n_73 ∧ ∀ x_75 : UInt64, x_75 = f_74 x_57.toNatClampNeg →
  (zaD (g.2.1 1) hp_59 r_56 fun a_76 n_77 f_78 => vp_in x_57 n_77 ∧ ∀ x_79 : UInt64, x_79 = f_78 x_57.toNatClampNeg →
  (((Op.cmpValue (FP.dcmp x_75 x_79) .l) = 0 →
  (∀ x_80 : Int32, x_80 = x_57 + (1 : Int32) →
  (∃ k_81, k_81 < n_63 ∧ I_132 k_81 r_56 x_80 x_58 hp_59 nx_60 kc_61 ks_62))) ∧
  (¬ (Op.cmpValue (FP.dcmp x_75 x_79) .l) = 0 →
  (kc_61 ≤ mc ∧ ks_62 ≤ ms ∧ Post (-3 : Int32) hp_59 nx_60))))))))) ∧
  (¬ x5 ≤ x_50 →
  (zaD (g.2.1 1) hp_51 r_49 fun a_83 n_84 f_85 => ((vp_in (x4 + x_50) n_84 → ∀ x_86 : UInt64, x_86 = f_85 (x4 + x_50).toNatClampNeg →
  (zaD (g.2.1 1) hp_51 r_48 fun a_87 n_88 f_89 => vp_in x_50 n_88 ∧ zB g ≤ a_87 ∧ ∀ hp_90 : zHp, hp_90 = va_up hp_51 a_87 (some (.inl (g.2.1 1, n_88, .inr (.inr (.inr (.inl (va_up f_89 x_50.toNatClampNeg x_86))))))) →
  (∀ x_91 : Int32, x_91 = x_50 + (1 : Int32) →
  (∃ k_92, k_92 < n_55 ∧ I_90 k_92 r_48 r_49 x_91 hp_90 nx_52 kc_53 ks_54)))) ∧ (¬ vp_in (x4 + x_50) n_84 → n_84 < 2147483648 ∧ (l.stackTraces = false ∧ 160 ≤ d ∧ (kc_53 + 3) ≤ mc ∧ (ks_54 + 222) ≤ ms ∧ ∀ q_93 nx_94 : Nat, nx_52 ≤ nx_94 →
  ((kc_53 + 3) ≤ mc ∧ (ks_54 + 222) ≤ ms ∧ Post (-12 : Int32) hp_51 nx_94))))))))) ∧ (x_97 = 0 → (l.stackTraces = false ∧ 160 ≤ d ∧ (kc_34 + 3) ≤ mc ∧ (ks_35 + 1010) ≤ ms ∧ ∀ q_100 nx_101 : Nat, nx_33 ≤ nx_101 →
  ((kc_34 + 3) ≤ mc ∧ (ks_35 + 1010) ≤ ms ∧ Post (-13 : Int32) hp_32 nx_101))))))))))))))) ∧
  (¬ x_19 = 0 →
  (0 ≤ mc ∧ 0 ≤ ms ∧ Post (-3 : Int32) hp_17 nx_18))))))))))))))))))))))
set_option maxHeartbeats 40000000 in
theorem mv_X0_axisBy {l : Launch} {g : zG} {d : Nat} {mc ms : Nat} {h0 : Nat} {x1 : Int32} {x2 : Int32} {x3 : Int32} {x4 : Int32} {x5 : Int32} {hp : zHp} {nx : Nat} {Post : Int32 → zHp → Nat → Prop} (hw : wv_X0_axisBy l g d mc ms h0 x1 x2 x3 x4 x5 hp nx Post) : zMtW l g yX0_axisBy cX0_axisBy 9 (some .int) [(73, 116, 119, 445), (73, 116, 124, 484)] (d + 1) mc ms [.ref h0, .int x1, .int x2, .int x3, .int x4, .int x5] hp nx (zQi g Post) := by
  refine z_startT (by decide) (Nat.le_of_ble_eq_true rfl) ?_
  intro p e s m below meth c hk hr hin htb hH hz ls hl
  have hx := hk.1.1
  have hb := hk.1.2.1
  have hown := hk.1.2.2.2.1
  have hts := hk.1.2.2.2.2
  have hS : va_S (zAd g) s.heap s.heap [] := va_S.rf
  have hl : lv_has ls 9 [(0, va_rf (some h0)), (1, .int x1), (2, .int x2), (3, .int x3), (4, .int x4), (5, .int x5)] := hl
  unfold wv_X0_axisBy at hw
  refine lv_iload_n hx hb dX0_axisBy_0 rfl (lv_at hl 1 rfl) ?_
  obtain ⟨hcl, hsl, hw⟩ := hw
  refine zr_calli (zr_runS (As := [.int x1]) hk hH hz hS hl.1 hw (va_cwS 1 hts (lw_S q2343 q2344 q131 q2345) rfl rfl rfl (by decide +kernel) (z_room (Nat.le_of_ble_eq_true rfl))) rfl rfl (Nat.le_of_ble_eq_true rfl) dX0_axisBy_1 ⟨hcl, hsl⟩) hS (fun x_3 hp_1 nx_2 hw H locs hH hz hS => ?_)
  obtain ⟨P_37, hP_37, hw⟩ := hw
  have hJ_37 : ∀ (hp_4 : zHp) (nx_5 : Nat) (kc_6 : Nat) (ks_7 : Nat) (H : Heap) (locs : List Loc) (ls : Array Slot), P_37 hp_4 nx_5 kc_6 ks_7 → lv_has ls 9 [(0, va_rf (some h0)), (1, .int x1), (2, .int x2), (3, .int x3), (4, .int x4), (5, .int x5)] → zHd g hp_4 H → H.size = nx_5 → va_S (zAd g) s.heap H locs → W p l e (zrm (d + 1) mc ms) s m ([.ref h0, .int x1, .int x2, .int x3, .int x4, .int x5] : List Value).toArray below meth c H locs kc_6 ks_7 (MQ below (zQi g Post) ([.ref h0, .int x1, .int x2, .int x3, .int x4, .int x5] : List Value).toArray s mc ms (zAd g)) (F0 m 37 ls []) := by
    intro hp_4 nx_5 kc_6 ks_7 H locs ls hw hl hH hz hS
    have hw := hP_37 hp_4 nx_5 kc_6 ks_7 hw
    refine lv_bipush (v := (-2 : Int32)) hx hb dX0_axisBy_37 (by decide) ?_
    obtain ⟨hkc, hks, hw⟩ := hw
    exact zr_iret hk hr hH hz hS hw hkc hks dX0_axisBy_39
  refine lv_if_eq (tgt := 37) hx hb dX0_axisBy_4 (by decide) (fun hc => ?_) (fun hc => ?_)
  · have hw := hw.1 hc
    exact hJ_37 hp_1 nx_2 0 0 _ _ _ hw hl hH hz hS
  · have hw := hw.2 hc
    refine lv_iload_n hx hb dX0_axisBy_7 rfl (lv_at hl 2 rfl) ?_
    refine lv_i2l hx hb dX0_axisBy_8 rfl ?_
    refine lv_lconst (v := (0 : Int64)) hx hb dX0_axisBy_9 (by decide) ?_
    refine lv_lconst (v := (1 : Int64)) hx hb dX0_axisBy_10 (by decide) ?_
    obtain ⟨hcl, hsl, hw⟩ := hw
    refine zr_calli (zr_runS (As := [.long x2.toInt64, .long (0 : Int64), .long (1 : Int64)]) hk hH hz hS hl.1 hw (va_cwS 3 hts (lw_S q1308 q1309 q131 q1310) rfl rfl rfl (by decide +kernel) (z_room (Nat.le_of_ble_eq_true rfl))) rfl rfl (Nat.le_of_ble_eq_true rfl) dX0_axisBy_11 ⟨hcl, hsl⟩) hS (fun x_10 hp_8 nx_9 hw H locs hH hz hS => ?_)
    refine lv_if_eq (tgt := 37) hx hb dX0_axisBy_14 (by decide) (fun hc => ?_) (fun hc => ?_)
    · have hw := hw.1 hc
      exact hJ_37 hp_8 nx_9 0 0 _ _ _ hw hl hH hz hS
    · have hw := hw.2 hc
      refine lv_iload_n hx hb dX0_axisBy_17 rfl (lv_at hl 3 rfl) ?_
      obtain ⟨hcl, hsl, hw⟩ := hw
      refine zr_calli (zr_runS (As := [.int x3]) hk hH hz hS hl.1 hw (va_cwS 1 hts (lw_S q2425 q2426 q131 q2427) rfl rfl rfl (by decide +kernel) (z_room (Nat.le_of_ble_eq_true rfl))) rfl rfl (Nat.le_of_ble_eq_true rfl) dX0_axisBy_18 ⟨hcl, hsl⟩) hS (fun x_13 hp_11 nx_12 hw H locs hH hz hS => ?_)
      refine lv_if_eq (tgt := 37) hx hb dX0_axisBy_21 (by decide) (fun hc => ?_) (fun hc => ?_)
      · have hw := hw.1 hc
        exact hJ_37 hp_11 nx_12 0 0 _ _ _ hw hl hH hz hS
      · have hw := hw.2 hc
        refine lv_iload hx hb dX0_axisBy_24 (lv_at hl 5 rfl) ?_
        refine lv_i2l hx hb dX0_axisBy_26 rfl ?_
        refine lv_lconst (v := (1 : Int64)) hx hb dX0_axisBy_27 (by decide) ?_
        refine lv_ldc2 hx hb hown (hts _ q2396) dX0_axisBy_28 ?_
        obtain ⟨hcl, hsl, hw⟩ := hw
        refine zr_calli (zr_runS (As := [.long x5.toInt64, .long (1 : Int64), .long (8 : Int64)]) hk hH hz hS hl.1 hw (va_cwS 3 hts (lw_S q1308 q1309 q131 q1310) rfl rfl rfl (by decide +kernel) (z_room (Nat.le_of_ble_eq_true rfl))) rfl rfl (Nat.le_of_ble_eq_true rfl) dX0_axisBy_31 ⟨hcl, hsl⟩) hS (fun x_16 hp_14 nx_15 hw H locs hH hz hS => ?_)
        refine lv_if_ne (tgt := 40) hx hb dX0_axisBy_34 (by decide) (fun hc => ?_) (fun hc => ?_)
        · have hw := hw.2 hc
          refine zr_aload_n (r := some h0) hx hb dX0_axisBy_40 rfl (lv_at hl 0 rfl) ?_
          refine lv_iload_n hx hb dX0_axisBy_41 rfl (lv_at hl 1 rfl) ?_
          refine lv_iload_n hx hb dX0_axisBy_42 rfl (lv_at hl 2 rfl) ?_
          obtain ⟨hcl, hsl, hw⟩ := hw
          obtain ⟨a_102, ci_103, fs_104, er, he, hc, hw⟩ := zo_e hw
          obtain rfl := List.mem_singleton.mp hc
          refine zr_calli (zw_runV (As := [.int x1, .int x2]) hk hH hz hS hl.1 er hw (cwV 2 hts (lw_V q2397 q2399 qs53 q131 q2400) rfl rfl rfl (by decide +kernel) (z_room (Nat.le_of_ble_eq_true rfl))) he rfl rfl rfl (Nat.le_of_ble_eq_true rfl) dX0_axisBy_43 ⟨hcl, hsl⟩) hS (fun x_19 hp_17 nx_18 hw H locs hH hz hS => ?_)
          refine lv_if_eq (tgt := 52) hx hb dX0_axisBy_46 (by decide) (fun hc => ?_) (fun hc => ?_)
          · have hw := hw.1 hc
            refine zr_aload_n (r := some h0) hx hb dX0_axisBy_52 rfl (lv_at hl 0 rfl) ?_
            obtain ⟨a_20, ci_21, fs_22, r_23, er, he, hc, hv, hw⟩ := zgR_e hw
            refine zw_get hk hH er he hv (fk_X0_121 hc) dX0_axisBy_53 ?_
            refine lv_iload_n hx hb dX0_axisBy_56 rfl (lv_at hl 3 rfl) ?_
            obtain ⟨a_24, n_25, f_26, er, he, hi, hw⟩ := zaR_e hw
            have hw := hw _ rfl
            refine zw_aald hk hH 12 er he rfl rfl hi dX0_axisBy_57 ?_
            generalize f_26 x3.toNatClampNeg = r_27 at hw ⊢
            obtain ⟨a_28, ci_29, fs_30, r_31, er, he, hc, hv, hw⟩ := zgR_e hw
            refine zw_get hk hH er he hv (fk_X0_479 hc) dX0_axisBy_58 ?_
            refine zr_ifnonnull (r := r_31) (tgt := 67) hx hb dX0_axisBy_61 (by decide) (fun hc => ?_) (fun hc => ?_)
            · have hw := hw.2 hc
              refine lv_iload hx hb dX0_axisBy_67 (lv_at hl 5 rfl) ?_
              obtain ⟨hn0, hn1, hcl, hsl, hw⟩ := hw
              refine zx_newa hk hH hz hS (atype := .double) 1 (ty := .double) rfl q275 rfl (fun _ _ h => h) (a0 := (x5.toNatClampNeg, .inr (.inr (.inr (.inl (fun _ => 0)))))) (fun _ => rfl) hn0 rfl (by simp only [componentBytes]; omega) hcl hsl dX0_axisBy_69 (fun H hH hz hS hlt hnb => ?_)
              have hw := hw hlt hnb
              generalize va_up hp_17 nx_18 _ = hp_32 at hH hw
              obtain ⟨kc_34, ekc⟩ : ∃ k, k = (0 + 1) := ⟨_, rfl⟩
              obtain ⟨ks_35, eks⟩ : ∃ k, k = (0 + x5.toNatClampNeg) := ⟨_, rfl⟩
              have hw := hw _ _ _ rfl ekc eks
              refine W.widen (Nat.le_of_eq ekc.symm) (Nat.le_of_eq eks.symm) ?_
              clear ekc eks
              generalize (nx_18 + 1) = nx_33 at hz hw
              refine zr_astore (r := some nx_18) (lv' := [(6, va_rf (some nx_18)), (0, va_rf (some h0)), (1, .int x1), (2, .int x2), (3, .int x3), (4, .int x4), (5, .int x5)]) hx hb dX0_axisBy_71 hl (by decide) (by first | rfl | simp [List.filter_cons, z_cat, z_catI, z_catJ, z_catF, z_catD]) (fun ls hl => ?_)
              refine zr_aload_n (r := some h0) hx hb dX0_axisBy_73 rfl (lv_at hl 1 rfl) ?_
              obtain ⟨a_36, ci_37, fs_38, r_39, er, he, hc, hv, hw⟩ := zgR_e hw
              refine zw_get hk hH er he hv (fk_X0_121 hc) dX0_axisBy_74 ?_
              refine lv_iload_n hx hb dX0_axisBy_77 rfl (lv_at hl 4 rfl) ?_
              obtain ⟨a_40, n_41, f_42, er, he, hi, hw⟩ := zaR_e hw
              have hw := hw _ rfl
              refine zw_aald hk hH 12 er he rfl rfl hi dX0_axisBy_78 ?_
              generalize f_42 x3.toNatClampNeg = r_43 at hw ⊢
              obtain ⟨a_44, ci_45, fs_46, r_47, er, he, hc, hv, hw⟩ := zgR_e hw
              refine zw_get hk hH er he hv (fk_X0_479 hc) dX0_axisBy_79 ?_
              obtain ⟨a_96, v_98, er, ⟨he, hw⟩ | ⟨j_99, hj, hjt, he, hw⟩⟩ := hw
              · have hw := hw.1 rfl
                refine zw_castA (r := r_47) (ty := .double) hk hH 1 q2429 rfl (fun _ _ h => h) (fun a9 e9 => by cases er.symm.trans e9; exact ⟨_, he⟩) dX0_axisBy_82 ?_
                refine zr_astore (r := r_47) (lv' := [(7, va_rf r_47), (6, va_rf (some nx_18)), (0, va_rf (some h0)), (1, .int x1), (2, .int x2), (3, .int x3), (4, .int x4), (5, .int x5)]) hx hb dX0_axisBy_85 hl (by decide) (by first | rfl | simp [List.filter_cons, z_cat, z_catI, z_catJ, z_catF, z_catD]) (fun ls hl => ?_)
                refine lv_iconst (v := (0 : Int32)) hx hb dX0_axisBy_87 (by decide) ?_
                refine lv_istore (lv' := [(8, .int (0 : Int32)), (7, va_rf r_47), (6, va_rf (some nx_18)), (0, va_rf (some h0)), (1, .int x1), (2, .int x2), (3, .int x3), (4, .int x4), (5, .int x5)]) hx hb dX0_axisBy_88 hl (by decide) (by first | rfl | simp [List.filter_cons, z_cat, z_catI, z_catJ, z_catF, z_catD]) (fun ls hl => ?_)
                obtain ⟨I_90, ⟨n_95, hI⟩, hB_90⟩ := hw
                have hL_90 : ∀ (n_55 : Nat) (r_48 : Option Nat) (r_49 : Option Nat) (x_50 : Int32) (hp_51 : zHp) (nx_52 : Nat) (kc_53 : Nat) (ks_54 : Nat) (H : Heap) (locs : List Loc) (ls : Array Slot), I_90 n_55 r_48 r_49 x_50 hp_51 nx_52 kc_53 ks_54 → lv_has ls 9 [(0, va_rf (some h0)), (1, .int x1), (2, .int x2), (3, .int x3), (4, .int x4), (5, .int x5), (6, va_rf r_48), (7, va_rf r_49), (8, .int x_50)] → zHd g hp_51 H → H.size = nx_52 → va_S (zAd g) s.heap H locs → W p l e (zrm (d + 1) mc ms) s m ([.ref h0, .int x1, .int x2, .int x3, .int x4, .int x5] : List Value).toArray below meth c H locs kc_53 ks_54 (MQ below (zQi g Post) ([.ref h0, .int x1, .int x2, .int x3, .int x4, .int x5] : List Value).toArray s mc ms (zAd g)) (F0 m 90 ls []) := by
                  intro n_55
                  induction n_55 using Nat.strongRecOn with
                  | _ n_55 ih_90 =>
                    intro r_48 r_49 x_50 hp_51 nx_52 kc_53 ks_54 H locs ls hw hl hH hz hS
                    have hw := hB_90 n_55 r_48 r_49 x_50 hp_51 nx_52 kc_53 ks_54 hw
                    refine lv_iload hx hb dX0_axisBy_90 (lv_at hl 8 rfl) ?_
                    refine lv_iload hx hb dX0_axisBy_92 (lv_at hl 5 rfl) ?_
                    refine lv_icmp_ge (tgt := 116) hx hb dX0_axisBy_94 (by decide) (fun hc => ?_) (fun hc => ?_)
                    · have hw := hw.1 hc
                      refine lv_goto (tgt := 129) hx hb dX0_axisBy_116 (by decide) ?_
                      refine lv_iconst (v := (0 : Int32)) hx hb dX0_axisBy_129 (by decide) ?_
                      refine lv_istore (lv' := [(7, .int (0 : Int32)), (0, va_rf (some h0)), (1, .int x1), (2, .int x2), (3, .int x3), (4, .int x4), (5, .int x5), (6, va_rf r_48), (8, .int x_50)]) hx hb dX0_axisBy_130 hl (by decide) (by first | rfl | simp [List.filter_cons, z_cat, z_catI, z_catJ, z_catF, z_catD]) (fun ls hl => ?_)
                      obtain ⟨I_132, ⟨n_82, hI⟩, hB_132⟩ := hw
                      have hL_132 : ∀ (n_63 : Nat) (r_56 : Option Nat) (x_57 : Int32) (x_58 : Int32) (hp_59 : zHp) (nx_60 : Nat) (kc_61 : Nat) (ks_62 : Nat) (H : Heap) (locs : List Loc) (ls : Array Slot), I_132 n_63 r_56 x_57 x_58 hp_59 nx_60 kc_61 ks_62 → lv_has ls 9 [(0, va_rf (some h0)), (1, .int x1), (2, .int x2), (3, .int x3), (4, .int x4), (5, .int x5), (6, va_rf r_56), (7, .int x_57), (8, .int x_58)] → zHd g hp_59 H → H.size = nx_60 → va_S (zAd g) s.heap H locs → W p l e (zrm (d + 1) mc ms) s m ([.ref h0, .int x1, .int x2, .int x3, .int x4, .int x5] : List Value).toArray below meth c H locs kc_61 ks_62 (MQ below (zQi g Post) ([.ref h0, .int x1, .int x2, .int x3, .int x4, .int x5] : List Value).toArray s mc ms (zAd g)) (F0 m 132 ls []) := by
                        intro n_63
                        induction n_63 using Nat.strongRecOn with
                        | _ n_63 ih_132 =>
                          intro r_56 x_57 x_58 hp_59 nx_60 kc_61 ks_62 H locs ls hw hl hH hz hS
                          have hw := hB_132 n_63 r_56 x_57 x_58 hp_59 nx_60 kc_61 ks_62 hw
                          refine lv_iload hx hb dX0_axisBy_132 (lv_at hl 7 rfl) ?_
                          refine lv_iload hx hb dX0_axisBy_134 (lv_at hl 5 rfl) ?_
                          refine lv_icmp_ge (tgt := 162) hx hb dX0_axisBy_136 (by decide) (fun hc => ?_) (fun hc => ?_)
                          · have hw := hw.1 hc
                            refine zr_aload_n (r := some h0) hx hb dX0_axisBy_162 rfl (lv_at hl 0 rfl) ?_
                            refine lv_iload_n hx hb dX0_axisBy_163 rfl (lv_at hl 1 rfl) ?_
                            refine lv_iload_n hx hb dX0_axisBy_164 rfl (lv_at hl 2 rfl) ?_
                            refine zr_aload (r := r_56) hx hb dX0_axisBy_165 (lv_at hl 6 rfl) ?_
                            obtain ⟨c_64, s_65, hcl, hsl, hw⟩ := hw
                            obtain ⟨a_69, ci_70, fs_71, er, he, hc, hw⟩ := zo_e hw
                            obtain rfl := List.mem_singleton.mp hc
                            refine zr_calli (zw_runV (As := [.int x1, .int x2, va_rf r_56]) hk hH hz hS hl.1 er hw (cwV 3 hts (lw_V q2401 q2403 qs54 q131 q2404) rfl rfl rfl (by decide +kernel) (z_room (Nat.le_of_ble_eq_true rfl))) he rfl rfl rfl (Nat.le_of_ble_eq_true rfl) dX0_axisBy_167 ⟨hcl, hsl⟩) hS (fun x_68 hp_66 nx_67 hw H locs hH hz hS => ?_)
                            obtain ⟨hkc, hks, hw⟩ := hw
                            exact zr_iret hk hr hH hz hS hw hkc hks dX0_axisBy_170
                          · have hw := hw.2 hc
                            refine zr_aload (r := r_56) hx hb dX0_axisBy_139 (lv_at hl 6 rfl) ?_
                            refine lv_iload hx hb dX0_axisBy_141 (lv_at hl 7 rfl) ?_
                            obtain ⟨a_72, n_73, f_74, er, he, hi, hw⟩ := zaD_e hw
                            have hw := hw _ rfl
                            refine zw_dald hk hH er he hi dX0_axisBy_143 ?_
                            generalize f_74 x_57.toNatClampNeg = x_75 at hw ⊢
                            refine zr_aload (r := r_56) hx hb dX0_axisBy_144 (lv_at hl 6 rfl) ?_
                            refine lv_iload hx hb dX0_axisBy_146 (lv_at hl 7 rfl) ?_
                            obtain ⟨a_76, n_77, f_78, er, he, hi, hw⟩ := zaD_e hw
                            have hw := hw _ rfl
                            refine zw_dald hk hH er he hi dX0_axisBy_148 ?_
                            generalize f_78 x_57.toNatClampNeg = x_79 at hw ⊢
                            refine lv_dcmp hx hb dX0_axisBy_149 ?_
                            refine lv_if_eq (tgt := 156) hx hb dX0_axisBy_150 (by decide) (fun hc => ?_) (fun hc => ?_)
                            · have hw := hw.1 hc
                              obtain ⟨x_80, ex_80⟩ : ∃ y : Int32, y = x_57 + (1 : Int32) := ⟨_, rfl⟩
                              have hw := hw x_80 ex_80
                              refine lv_iinc (v := x_80) (lv' := [(7, .int x_80), (0, va_rf (some h0)), (1, .int x1), (2, .int x2), (3, .int x3), (4, .int x4), (5, .int x5), (6, va_rf r_56), (8, .int x_58)]) hx hb dX0_axisBy_156 hl (k := 7) rfl (by rw [ex_80]; rfl) (by decide) (by first | rfl | simp [List.filter_cons, z_cat, z_catI, z_catJ, z_catF, z_catD]) (fun ls hl => ?_)
                              refine lv_goto (tgt := 132) hx hb dX0_axisBy_159 (by decide) ?_
                              obtain ⟨k_81, hlt, hw⟩ := hw
                              exact ih_132 k_81 hlt r_56 x_80 x_58 hp_59 nx_60 kc_61 ks_62 _ _ _ hw (lv_sub hl [1, 2, 3, 4, 5, 6, 7, 0, 8] rfl) hH hz hS
                            · have hw := hw.2 hc
                              refine lv_bipush (v := (-3 : Int32)) hx hb dX0_axisBy_153 (by decide) ?_
                              obtain ⟨hkc, hks, hw⟩ := hw
                              exact zr_iret hk hr hH hz hS hw hkc hks dX0_axisBy_155
                      exact hL_132 n_82 r_48 (0 : Int32) x_50 hp_51 nx_52 kc_53 ks_54 _ _ _ hI (lv_sub hl [1, 2, 3, 4, 5, 6, 7, 0, 8] rfl) hH hz hS
                    · have hw := hw.2 hc
                      refine zr_aload (r := r_48) hx hb dX0_axisBy_97 (lv_at hl 6 rfl) ?_
                      refine lv_iload hx hb dX0_axisBy_99 (lv_at hl 8 rfl) ?_
                      refine zr_aload (r := r_49) hx hb dX0_axisBy_101 (lv_at hl 7 rfl) ?_
                      refine lv_iload hx hb dX0_axisBy_103 (lv_at hl 4 rfl) ?_
                      refine lv_iload hx hb dX0_axisBy_105 (lv_at hl 8 rfl) ?_
                      refine lv_iadd hx hb dX0_axisBy_107 ?_
                      obtain ⟨a_83, n_84, f_85, er, he, hw⟩ := zaD_e hw
                      by_cases hi : vp_in (x4 + x_50) n_84
                      · have hw := hw.1 hi
                        have hw := hw _ rfl
                        refine zw_dald hk hH er he hi dX0_axisBy_108 ?_
                        generalize f_85 (x4 + x_50).toNatClampNeg = x_86 at hw ⊢
                        obtain ⟨a_87, n_88, f_89, er, he, hi, hA, hw⟩ := zaD_e hw
                        obtain ⟨hp_90, eh⟩ : ∃ y : zHp, y = va_up hp_51 a_87 (some (.inl (g.2.1 1, n_88, .inr (.inr (.inr (.inl (va_up f_89 x_50.toNatClampNeg x_86))))))) := ⟨_, rfl⟩
                        have hw := hw hp_90 eh
                        refine zw_dast hk hH hz hS er he hi hA eh dX0_axisBy_109 (fun H locs hH hz hS => ?_)
                        obtain ⟨x_91, ex_91⟩ : ∃ y : Int32, y = x_50 + (1 : Int32) := ⟨_, rfl⟩
                        have hw := hw x_91 ex_91
                        refine lv_iinc (v := x_91) (lv' := [(8, .int x_91), (0, va_rf (some h0)), (1, .int x1), (2, .int x2), (3, .int x3), (4, .int x4), (5, .int x5), (6, va_rf r_48), (7, va_rf r_49)]) hx hb dX0_axisBy_110 hl (k := 8) rfl (by rw [ex_91]; rfl) (by decide) (by first | rfl | simp [List.filter_cons, z_cat, z_catI, z_catJ, z_catF, z_catD]) (fun ls hl => ?_)
                        refine lv_goto (tgt := 90) hx hb dX0_axisBy_113 (by decide) ?_
                        obtain ⟨k_92, hlt, hw⟩ := hw
                        exact ih_90 k_92 hlt r_48 r_49 x_91 hp_90 nx_52 kc_53 ks_54 _ _ _ hw (lv_sub hl [1, 2, 3, 4, 5, 6, 7, 8, 0] rfl) hH hz hS
                      · obtain ⟨hnn, hw⟩ := hw.2 hi
                        obtain ⟨hT, h160, hkc, hks, hw⟩ := hw
                        refine zv_dald (f := f_85) hk hT h160 hH hz hS hl.1 er he hi hnn hkc hks (by first | exact Nat.le_of_ble_eq_true rfl | (simp only [List.map_cons, List.map_nil, z_cat]; exact Nat.le_of_ble_eq_true rfl)) dX0_axisBy_108 (fun H q_93 nx_94 hle hH hz hS hq => ?_)
                        have hw := hw q_93 nx_94 hle
                        refine zv_catch hk hq (name := "java/lang/ArrayIndexOutOfBoundsException") (tableOf [(73, 116, 119, 445)]) ⟨73, 116, 124, 484⟩ (tableOf []) htb (by intro z hz; simp only [tableOf, List.map_cons, List.map_nil, List.mem_cons, List.not_mem_nil, or_false] at hz; rcases hz with rfl; exact Or.inr ⟨by decide, _, q2320, by simp [zNC]⟩) (by decide) (by decide) q2409 q2421 ?_
                        refine zr_astore (r := some q_93) (lv' := [(7, va_rf (some q_93)), (0, va_rf (some h0)), (1, .int x1), (2, .int x2), (3, .int x3), (4, .int x4), (5, .int x5), (6, va_rf r_48), (8, .int x_50)]) hx hb dX0_axisBy_124 hl (by decide) (by first | rfl | simp [List.filter_cons, z_cat, z_catI, z_catJ, z_catF, z_catD]) (fun ls hl => ?_)
                        refine lv_bipush (v := (-12 : Int32)) hx hb dX0_axisBy_126 (by decide) ?_
                        obtain ⟨hkc, hks, hw⟩ := hw
                        exact zr_iret hk hr hH hz hS hw hkc hks dX0_axisBy_128
                exact hL_90 n_95 (some nx_18) r_47 (0 : Int32) hp_32 nx_33 kc_34 ks_35 _ _ _ hI (lv_sub hl [3, 4, 5, 6, 7, 8, 2, 1, 0] rfl) hH hz hS
              · have hw := hw.2 rfl
                obtain ⟨hT, h160, hkc, hks, hw⟩ := hw
                refine zv_castA (r := r_47) hk hT hH hz hS hl.1 hj (by decide) hjt er he q2429 h160 (by first | exact Nat.le_of_ble_eq_true rfl | (simp only [List.map_cons, List.map_nil, z_cat]; exact Nat.le_of_ble_eq_true rfl)) hkc hks dX0_axisBy_82 (fun H q_100 nx_101 hle hH hz hS hq => ?_)
                have hw := hw q_100 nx_101 hle
                refine zv_catch hk hq (name := "java/lang/ClassCastException") (tableOf []) ⟨73, 116, 119, 445⟩ (tableOf [(73, 116, 124, 484)]) htb (by intro z hz; cases hz) (by decide) (by decide) q2320 q2332 ?_
                refine zr_astore (r := some q_100) (lv' := [(7, va_rf (some q_100)), (6, va_rf (some nx_18)), (0, va_rf (some h0)), (1, .int x1), (2, .int x2), (3, .int x3), (4, .int x4), (5, .int x5)]) hx hb dX0_axisBy_119 hl (by decide) (by first | rfl | simp [List.filter_cons, z_cat, z_catI, z_catJ, z_catF, z_catD]) (fun ls hl => ?_)
                refine lv_bipush (v := (-13 : Int32)) hx hb dX0_axisBy_121 (by decide) ?_
                obtain ⟨hkc, hks, hw⟩ := hw
                exact zr_iret hk hr hH hz hS hw hkc hks dX0_axisBy_123
            · have hw := hw.1 hc
              refine lv_bipush (v := (-11 : Int32)) hx hb dX0_axisBy_64 (by decide) ?_
              obtain ⟨hkc, hks, hw⟩ := hw
              exact zr_iret hk hr hH hz hS hw hkc hks dX0_axisBy_66
          · have hw := hw.2 hc
            refine lv_bipush (v := (-3 : Int32)) hx hb dX0_axisBy_49 (by decide) ?_
            obtain ⟨hkc, hks, hw⟩ := hw
            exact zr_iret hk hr hH hz hS hw hkc hks dX0_axisBy_51
        · have hw := hw.1 hc
          exact hJ_37 hp_14 nx_15 0 0 _ _ _ hw hl hH hz hS
def wv_X0_row (l : Launch) (g : zG) (d : Nat) (mc ms : Nat) (h0 : Nat) (x1 : Int32) (x2 : Int32) (x3 : Int32) (hp : zHp) (nx : Nat) (Post : Int32 → zHp → Nat → Prop) : Prop :=
  (0 ≤ mc ∧ 0 ≤ ms ∧ zMt l g yX0_isRow cX0_isRow 1 (some .boolean) d 0 0 [.int x1] hp nx (zQi g fun x_3 hp_1 nx_2 =>
  (∃ P_31 : zHp → Nat → Nat → Nat → Prop, (∀ (hp_4 : zHp) (nx_5 : Nat) (kc_6 : Nat) (ks_7 : Nat), P_31 hp_4 nx_5 kc_6 ks_7 →
  (kc_6 ≤ mc ∧ ks_7 ≤ ms ∧ Post (-2 : Int32) hp_4 nx_5)) ∧
  ((x_3 = 0 →
  P_31 hp_1 nx_2 0 0) ∧
  (¬ x_3 = 0 →
  (0 ≤ mc ∧ 0 ≤ ms ∧ zMt l g yX0_in cX0_in 6 (some .boolean) d 0 0 [.long x2.toInt64, .long (-1 : Int64), .long (3 : Int64)] hp_1 nx_2 (zQi g fun x_10 hp_8 nx_9 =>
  ((x_10 = 0 →
  P_31 hp_8 nx_9 0 0) ∧
  (¬ x_10 = 0 →
  (∃ P_34 : zHp → Nat → Nat → Nat → Prop, (∀ (hp_11 : zHp) (nx_12 : Nat) (kc_13 : Nat) (ks_14 : Nat), P_34 hp_11 nx_12 kc_13 ks_14 →
  (zgR hp_11 (some h0) [0] 29 fun r_18 =>
  (zaR (g.2.1 12) hp_11 r_18 fun a_19 n_20 f_21 => vp_in x1 n_20 ∧ ∀ r_22 : Option Nat, r_22 = f_21 x1.toNatClampNeg →
  (∃ P_53 : (Option Nat) → (Option Nat) → zHp → Nat → Nat → Nat → Prop, (∀ (r_23 : Option Nat) (r_24 : Option Nat) (hp_25 : zHp) (nx_26 : Nat) (kc_27 : Nat) (ks_28 : Nat), P_53 r_23 r_24 hp_25 nx_26 kc_27 ks_28 →
  (zpt g hp_25 r_23 [3] 0 (va_rf r_24) fun hp_32 =>
  (kc_27 ≤ mc ∧ ks_28 ≤ ms ∧ Post (1 : Int32) hp_32 nx_26))) ∧
  ((0 ≤ x2 →
  (∃ c_33 s_34 : Nat, kc_13 + c_33 ≤ mc ∧ ks_14 + s_34 ≤ ms ∧ zMx l g yX0_things cX0_things 2 (some (.object "java/lang/Object")) d c_33 s_34 [.int x2, .int x3] hp_11 nx_12 (zQq g fun r_37 hp_35 nx_36 =>
  P_53 r_22 r_37 hp_35 nx_36 (kc_13 + c_33) (ks_14 + s_34)) "java/lang/NegativeArraySizeException" (fun q_38 hp_39 nx_40 =>
  ((kc_13 + c_33) ≤ mc ∧ (ks_14 + s_34) ≤ ms ∧ Post (-14 : Int32) hp_39 nx_40)))) ∧
  (¬ 0 ≤ x2 →
  P_53 r_22 none hp_11 nx_12 kc_13 ks_14)))))) ∧
  ((x2 < 0 →
  P_34 hp_8 nx_9 0 0) ∧
  (¬ x2 < 0 →
  ((x3 ≤ (64 : Int32) →
  P_34 hp_8 nx_9 0 0) ∧
  (¬ x3 ≤ (64 : Int32) →
  P_31 hp_8 nx_9 0 0))))))))))))))
set_option maxHeartbeats 40000000 in
theorem mv_X0_row {l : Launch} {g : zG} {d : Nat} {mc ms : Nat} {h0 : Nat} {x1 : Int32} {x2 : Int32} {x3 : Int32} {hp : zHp} {nx : Nat} {Post : Int32 → zHp → Nat → Prop} (hw : wv_X0_row l g d mc ms h0 x1 x2 x3 hp nx Post) : zMtW l g yX0_row cX0_row 5 (some .int) [(34, 57, 58, 585)] (d + 1) mc ms [.ref h0, .int x1, .int x2, .int x3] hp nx (zQi g Post) := by
  refine z_startT (by decide) (Nat.le_of_ble_eq_true rfl) ?_
  intro p e s m below meth c hk hr hin htb hH hz ls hl
  have hx := hk.1.1
  have hb := hk.1.2.1
  have hown := hk.1.2.2.2.1
  have hts := hk.1.2.2.2.2
  have hS : va_S (zAd g) s.heap s.heap [] := va_S.rf
  have hl : lv_has ls 5 [(0, va_rf (some h0)), (1, .int x1), (2, .int x2), (3, .int x3)] := hl
  unfold wv_X0_row at hw
  refine lv_iload_n hx hb dX0_row_0 rfl (lv_at hl 1 rfl) ?_
  obtain ⟨hcl, hsl, hw⟩ := hw
  refine zr_calli (zr_runS (As := [.int x1]) hk hH hz hS hl.1 hw (va_cwS 1 hts (lw_S q2425 q2426 q131 q2427) rfl rfl rfl (by decide +kernel) (z_room (Nat.le_of_ble_eq_true rfl))) rfl rfl (Nat.le_of_ble_eq_true rfl) dX0_row_1 ⟨hcl, hsl⟩) hS (fun x_3 hp_1 nx_2 hw H locs hH hz hS => ?_)
  obtain ⟨P_31, hP_31, hw⟩ := hw
  have hJ_31 : ∀ (hp_4 : zHp) (nx_5 : Nat) (kc_6 : Nat) (ks_7 : Nat) (H : Heap) (locs : List Loc) (ls : Array Slot), P_31 hp_4 nx_5 kc_6 ks_7 → lv_has ls 5 [(0, va_rf (some h0)), (1, .int x1), (2, .int x2), (3, .int x3)] → zHd g hp_4 H → H.size = nx_5 → va_S (zAd g) s.heap H locs → W p l e (zrm (d + 1) mc ms) s m ([.ref h0, .int x1, .int x2, .int x3] : List Value).toArray below meth c H locs kc_6 ks_7 (MQ below (zQi g Post) ([.ref h0, .int x1, .int x2, .int x3] : List Value).toArray s mc ms (zAd g)) (F0 m 31 ls []) := by
    intro hp_4 nx_5 kc_6 ks_7 H locs ls hw hl hH hz hS
    have hw := hP_31 hp_4 nx_5 kc_6 ks_7 hw
    refine lv_bipush (v := (-2 : Int32)) hx hb dX0_row_31 (by decide) ?_
    obtain ⟨hkc, hks, hw⟩ := hw
    exact zr_iret hk hr hH hz hS hw hkc hks dX0_row_33
  refine lv_if_eq (tgt := 31) hx hb dX0_row_4 (by decide) (fun hc => ?_) (fun hc => ?_)
  · have hw := hw.1 hc
    exact hJ_31 hp_1 nx_2 0 0 _ _ _ hw hl hH hz hS
  · have hw := hw.2 hc
    refine lv_iload_n hx hb dX0_row_7 rfl (lv_at hl 2 rfl) ?_
    refine lv_i2l hx hb dX0_row_8 rfl ?_
    refine lv_ldc2 hx hb hown (hts _ q2557) dX0_row_9 ?_
    refine lv_ldc2 hx hb hown (hts _ q2428) dX0_row_12 ?_
    obtain ⟨hcl, hsl, hw⟩ := hw
    refine zr_calli (zr_runS (As := [.long x2.toInt64, .long (-1 : Int64), .long (3 : Int64)]) hk hH hz hS hl.1 hw (va_cwS 3 hts (lw_S q1308 q1309 q131 q1310) rfl rfl rfl (by decide +kernel) (z_room (Nat.le_of_ble_eq_true rfl))) rfl rfl (Nat.le_of_ble_eq_true rfl) dX0_row_15 ⟨hcl, hsl⟩) hS (fun x_10 hp_8 nx_9 hw H locs hH hz hS => ?_)
    refine lv_if_eq (tgt := 31) hx hb dX0_row_18 (by decide) (fun hc => ?_) (fun hc => ?_)
    · have hw := hw.1 hc
      exact hJ_31 hp_8 nx_9 0 0 _ _ _ hw hl hH hz hS
    · have hw := hw.2 hc
      refine lv_iload_n hx hb dX0_row_21 rfl (lv_at hl 2 rfl) ?_
      obtain ⟨P_34, hP_34, hw⟩ := hw
      have hJ_34 : ∀ (hp_11 : zHp) (nx_12 : Nat) (kc_13 : Nat) (ks_14 : Nat) (H : Heap) (locs : List Loc) (ls : Array Slot), P_34 hp_11 nx_12 kc_13 ks_14 → lv_has ls 5 [(0, va_rf (some h0)), (1, .int x1), (2, .int x2), (3, .int x3)] → zHd g hp_11 H → H.size = nx_12 → va_S (zAd g) s.heap H locs → W p l e (zrm (d + 1) mc ms) s m ([.ref h0, .int x1, .int x2, .int x3] : List Value).toArray below meth c H locs kc_13 ks_14 (MQ below (zQi g Post) ([.ref h0, .int x1, .int x2, .int x3] : List Value).toArray s mc ms (zAd g)) (F0 m 34 ls []) := by
        intro hp_11 nx_12 kc_13 ks_14 H locs ls hw hl hH hz hS
        have hw := hP_34 hp_11 nx_12 kc_13 ks_14 hw
        refine zr_aload_n (r := some h0) hx hb dX0_row_34 rfl (lv_at hl 0 rfl) ?_
        obtain ⟨a_15, ci_16, fs_17, r_18, er, he, hc, hv, hw⟩ := zgR_e hw
        refine zw_get hk hH er he hv (fk_X0_121 hc) dX0_row_35 ?_
        refine lv_iload_n hx hb dX0_row_38 rfl (lv_at hl 1 rfl) ?_
        obtain ⟨a_19, n_20, f_21, er, he, hi, hw⟩ := zaR_e hw
        have hw := hw _ rfl
        refine zw_aald hk hH 12 er he rfl rfl hi dX0_row_39 ?_
        generalize f_21 x1.toNatClampNeg = r_22 at hw ⊢
        refine lv_iload_n hx hb dX0_row_40 rfl (lv_at hl 2 rfl) ?_
        obtain ⟨P_53, hP_53, hw⟩ := hw
        have hJ_53 : ∀ (r_23 : Option Nat) (r_24 : Option Nat) (hp_25 : zHp) (nx_26 : Nat) (kc_27 : Nat) (ks_28 : Nat) (H : Heap) (locs : List Loc) (ls : Array Slot), P_53 r_23 r_24 hp_25 nx_26 kc_27 ks_28 → lv_has ls 5 [(0, va_rf (some h0)), (1, .int x1), (2, .int x2), (3, .int x3)] → zHd g hp_25 H → H.size = nx_26 → va_S (zAd g) s.heap H locs → W p l e (zrm (d + 1) mc ms) s m ([.ref h0, .int x1, .int x2, .int x3] : List Value).toArray below meth c H locs kc_27 ks_28 (MQ below (zQi g Post) ([.ref h0, .int x1, .int x2, .int x3] : List Value).toArray s mc ms (zAd g)) (F0 m 53 ls [va_rf r_24, va_rf r_23]) := by
          intro r_23 r_24 hp_25 nx_26 kc_27 ks_28 H locs ls hw hl hH hz hS
          have hw := hP_53 r_23 r_24 hp_25 nx_26 kc_27 ks_28 hw
          obtain ⟨a_29, ci_30, fs_31, hp_32, er, he, hc, hA, hkl, eh, hw⟩ := zpt_e hw
          refine zw_put hk hH hz hS er he hA hkl eh (fp_X0_479 hc) (z_narR _ _) (z_fitR _ _) dX0_row_53 (fun H locs hH hz hS => ?_)
          refine lv_iconst (v := (1 : Int32)) hx hb dX0_row_56 (by decide) ?_
          obtain ⟨hkc, hks, hw⟩ := hw
          exact zr_iret hk hr hH hz hS hw hkc hks dX0_row_57
        refine lv_if_ge (tgt := 48) hx hb dX0_row_41 (by decide) (fun hc => ?_) (fun hc => ?_)
        · have hw := hw.1 hc
          refine lv_iload_n hx hb dX0_row_48 rfl (lv_at hl 2 rfl) ?_
          refine lv_iload_n hx hb dX0_row_49 rfl (lv_at hl 3 rfl) ?_
          obtain ⟨c_33, s_34, hcl, hsl, hw⟩ := hw
          refine zy_callq (zy_runS (As := [.int x2, .int x3]) hk hH hz hS hl.1 hw (va_cwS 2 hts (lw_S q2613 q2614 q131 q2615) rfl rfl rfl (by decide +kernel) (z_room (Nat.le_of_ble_eq_true rfl))) rfl rfl (by simp only [List.map_cons, List.map_nil, z_cat]; exact Nat.le_of_ble_eq_true rfl) dX0_row_50 ⟨hcl, hsl⟩) hS ?_ (fun r_37 hp_35 nx_36 hw H locs hH hz hS => ?_)
          · intro q_38 hp_39 nx_40 hw H locs hH hz hS hq
            refine zy_catch hk hq (name := "java/lang/NegativeArraySizeException") (tableOf []) ⟨34, 57, 58, 585⟩ (tableOf []) htb (by simp [tableOf, covers]) (by decide) (by decide) q2612 q287 ?_
            refine zr_astore (r := some q_38) (lv' := [(4, va_rf (some q_38)), (0, va_rf (some h0)), (1, .int x1), (2, .int x2), (3, .int x3)]) hx hb dX0_row_58 hl (by decide) (by first | rfl | simp [List.filter_cons, z_cat, z_catI, z_catJ, z_catF, z_catD]) (fun ls hl => ?_)
            refine lv_bipush (v := (-14 : Int32)) hx hb dX0_row_60 (by decide) ?_
            obtain ⟨hkc, hks, hw⟩ := hw
            exact zr_iret hk hr hH hz hS hw hkc hks dX0_row_62
          · exact hJ_53 r_22 r_37 hp_35 nx_36 (kc_13 + c_33) (ks_14 + s_34) _ _ _ hw hl hH hz hS
        · have hw := hw.2 hc
          refine zx_null hx hb dX0_row_44 ?_
          refine lv_goto (tgt := 53) hx hb dX0_row_45 (by decide) ?_
          exact hJ_53 r_22 none hp_11 nx_12 kc_13 ks_14 _ _ _ hw hl hH hz hS
      refine lv_if_lt (tgt := 34) hx hb dX0_row_22 (by decide) (fun hc => ?_) (fun hc => ?_)
      · have hw := hw.1 hc
        exact hJ_34 hp_8 nx_9 0 0 _ _ _ hw hl hH hz hS
      · have hw := hw.2 hc
        refine lv_iload_n hx hb dX0_row_25 rfl (lv_at hl 3 rfl) ?_
        refine lv_bipush (v := (64 : Int32)) hx hb dX0_row_26 (by decide) ?_
        refine lv_icmp_le (tgt := 34) hx hb dX0_row_28 (by decide) (fun hc => ?_) (fun hc => ?_)
        · have hw := hw.1 hc
          exact hJ_34 hp_8 nx_9 0 0 _ _ _ hw hl hH hz hS
        · have hw := hw.2 hc
          exact hJ_31 hp_8 nx_9 0 0 _ _ _ hw hl hH hz hS
def wv_X0_put (l : Launch) (g : zG) (d : Nat) (mc ms : Nat) (h0 : Nat) (x1 : Int32) (x2 : Int32) (x3 : Int32) (hp : zHp) (nx : Nat) (Post : Int32 → zHp → Nat → Prop) : Prop :=
  (0 ≤ mc ∧ 0 ≤ ms ∧ zMt l g yX0_isRow cX0_isRow 1 (some .boolean) d 0 0 [.int x1] hp nx (zQi g fun x_3 hp_1 nx_2 =>
  ((x_3 = 0 →
  (0 ≤ mc ∧ 0 ≤ ms ∧ Post (-2 : Int32) hp_1 nx_2)) ∧
  (¬ x_3 = 0 →
  (zgR hp_1 (some h0) [0] 29 fun r_7 =>
  (zaR (g.2.1 12) hp_1 r_7 fun a_8 n_9 f_10 => vp_in x1 n_9 ∧ ∀ r_11 : Option Nat, r_11 = f_10 x1.toNatClampNeg →
  (zgR hp_1 r_11 [3] 0 fun r_15 =>
  ((r_15 = none →
  (0 ≤ mc ∧ 0 ≤ ms ∧ Post (-11 : Int32) hp_1 nx_2)) ∧
  (¬ r_15 = none →
  (zgR hp_1 (some h0) [0] 29 fun r_19 =>
  (zaR (g.2.1 12) hp_1 r_19 fun a_20 n_21 f_22 => vp_in x1 n_21 ∧ ∀ r_23 : Option Nat, r_23 = f_22 x1.toNatClampNeg →
  (∃ c_24 s_25 : Nat, 0 + c_24 ≤ mc ∧ 0 + s_25 ≤ ms ∧ zo hp_1 r_23 [3] fun a_31 ci_32 fs_33 => zMx l g yX3_puts cX3_puts 3 none d c_24 s_25 (.ref a_31 :: [.int x2, .int x3]) hp_1 nx_2 (zQv g fun hp_26 nx_27 =>
  ((0 + c_24) ≤ mc ∧ (0 + s_25) ≤ ms ∧ Post (1 : Int32) hp_26 nx_27)) "java/lang/ArrayIndexOutOfBoundsException" (fun q_28 hp_29 nx_30 =>
  ((0 + c_24) ≤ mc ∧ (0 + s_25) ≤ ms ∧ Post (-12 : Int32) hp_29 nx_30))))))))))))))
set_option maxHeartbeats 40000000 in
theorem mv_X0_put {l : Launch} {g : zG} {d : Nat} {mc ms : Nat} {h0 : Nat} {x1 : Int32} {x2 : Int32} {x3 : Int32} {hp : zHp} {nx : Nat} {Post : Int32 → zHp → Nat → Prop} (hw : wv_X0_put l g d mc ms h0 x1 x2 x3 hp nx Post) : zMtW l g yX0_put cX0_put 5 (some .int) [(25, 37, 38, 484)] (d + 1) mc ms [.ref h0, .int x1, .int x2, .int x3] hp nx (zQi g Post) := by
  refine z_startT (by decide) (Nat.le_of_ble_eq_true rfl) ?_
  intro p e s m below meth c hk hr hin htb hH hz ls hl
  have hx := hk.1.1
  have hb := hk.1.2.1
  have hown := hk.1.2.2.2.1
  have hts := hk.1.2.2.2.2
  have hS : va_S (zAd g) s.heap s.heap [] := va_S.rf
  have hl : lv_has ls 5 [(0, va_rf (some h0)), (1, .int x1), (2, .int x2), (3, .int x3)] := hl
  unfold wv_X0_put at hw
  refine lv_iload_n hx hb dX0_put_0 rfl (lv_at hl 1 rfl) ?_
  obtain ⟨hcl, hsl, hw⟩ := hw
  refine zr_calli (zr_runS (As := [.int x1]) hk hH hz hS hl.1 hw (va_cwS 1 hts (lw_S q2425 q2426 q131 q2427) rfl rfl rfl (by decide +kernel) (z_room (Nat.le_of_ble_eq_true rfl))) rfl rfl (Nat.le_of_ble_eq_true rfl) dX0_put_1 ⟨hcl, hsl⟩) hS (fun x_3 hp_1 nx_2 hw H locs hH hz hS => ?_)
  refine lv_if_ne (tgt := 10) hx hb dX0_put_4 (by decide) (fun hc => ?_) (fun hc => ?_)
  · have hw := hw.2 hc
    refine zr_aload_n (r := some h0) hx hb dX0_put_10 rfl (lv_at hl 0 rfl) ?_
    obtain ⟨a_4, ci_5, fs_6, r_7, er, he, hc, hv, hw⟩ := zgR_e hw
    refine zw_get hk hH er he hv (fk_X0_121 hc) dX0_put_11 ?_
    refine lv_iload_n hx hb dX0_put_14 rfl (lv_at hl 1 rfl) ?_
    obtain ⟨a_8, n_9, f_10, er, he, hi, hw⟩ := zaR_e hw
    have hw := hw _ rfl
    refine zw_aald hk hH 12 er he rfl rfl hi dX0_put_15 ?_
    generalize f_10 x1.toNatClampNeg = r_11 at hw ⊢
    obtain ⟨a_12, ci_13, fs_14, r_15, er, he, hc, hv, hw⟩ := zgR_e hw
    refine zw_get hk hH er he hv (fk_X0_479 hc) dX0_put_16 ?_
    refine zr_ifnonnull (r := r_15) (tgt := 25) hx hb dX0_put_19 (by decide) (fun hc => ?_) (fun hc => ?_)
    · have hw := hw.2 hc
      refine zr_aload_n (r := some h0) hx hb dX0_put_25 rfl (lv_at hl 0 rfl) ?_
      obtain ⟨a_16, ci_17, fs_18, r_19, er, he, hc, hv, hw⟩ := zgR_e hw
      refine zw_get hk hH er he hv (fk_X0_121 hc) dX0_put_26 ?_
      refine lv_iload_n hx hb dX0_put_29 rfl (lv_at hl 1 rfl) ?_
      obtain ⟨a_20, n_21, f_22, er, he, hi, hw⟩ := zaR_e hw
      have hw := hw _ rfl
      refine zw_aald hk hH 12 er he rfl rfl hi dX0_put_30 ?_
      generalize f_22 x1.toNatClampNeg = r_23 at hw ⊢
      refine lv_iload_n hx hb dX0_put_31 rfl (lv_at hl 2 rfl) ?_
      refine lv_iload_n hx hb dX0_put_32 rfl (lv_at hl 3 rfl) ?_
      obtain ⟨c_24, s_25, hcl, hsl, hw⟩ := hw
      obtain ⟨a_31, ci_32, fs_33, er, he, hc, hw⟩ := zo_e hw
      obtain rfl := List.mem_singleton.mp hc
      refine zy_callv (zy_runV (As := [.int x2, .int x3]) hk hH hz hS hl.1 er hw (cwV 2 hts (lw_V q2621 q2622 q2623 q153 q2624) rfl rfl rfl (by decide +kernel) (z_room (Nat.le_of_ble_eq_true rfl))) he rfl rfl rfl (Nat.le_of_ble_eq_true rfl) dX0_put_33 ⟨hcl, hsl⟩) hS ?_ (fun hp_26 nx_27 hw H locs hH hz hS => ?_)
      · intro q_28 hp_29 nx_30 hw H locs hH hz hS hq
        refine zy_catch hk hq (name := "java/lang/ArrayIndexOutOfBoundsException") (tableOf []) ⟨25, 37, 38, 484⟩ (tableOf []) htb (by simp [tableOf, covers]) (by decide) (by decide) q2409 q2421 ?_
        refine zr_astore (r := some q_28) (lv' := [(4, va_rf (some q_28)), (0, va_rf (some h0)), (1, .int x1), (2, .int x2), (3, .int x3)]) hx hb dX0_put_38 hl (by decide) (by first | rfl | simp [List.filter_cons, z_cat, z_catI, z_catJ, z_catF, z_catD]) (fun ls hl => ?_)
        refine lv_bipush (v := (-12 : Int32)) hx hb dX0_put_40 (by decide) ?_
        obtain ⟨hkc, hks, hw⟩ := hw
        exact zr_iret hk hr hH hz hS hw hkc hks dX0_put_42
      · refine lv_iconst (v := (1 : Int32)) hx hb dX0_put_36 (by decide) ?_
        obtain ⟨hkc, hks, hw⟩ := hw
        exact zr_iret hk hr hH hz hS hw hkc hks dX0_put_37
    · have hw := hw.1 hc
      refine lv_bipush (v := (-11 : Int32)) hx hb dX0_put_22 (by decide) ?_
      obtain ⟨hkc, hks, hw⟩ := hw
      exact zr_iret hk hr hH hz hS hw hkc hks dX0_put_24
  · have hw := hw.1 hc
    refine lv_bipush (v := (-2 : Int32)) hx hb dX0_put_7 (by decide) ?_
    obtain ⟨hkc, hks, hw⟩ := hw
    exact zr_iret hk hr hH hz hS hw hkc hks dX0_put_9
def wv_X0_item (l : Launch) (g : zG) (d : Nat) (mc ms : Nat) (h0 : Nat) (x1 : Int32) (x2 : Int32) (hp : zHp) (nx : Nat) (Post : Int64 → zHp → Nat → Prop) : Prop :=
  (0 ≤ mc ∧ 0 ≤ ms ∧ zMt l g yX0_isRow cX0_isRow 1 (some .boolean) d 0 0 [.int x1] hp nx (zQi g fun x_3 hp_1 nx_2 =>
  ((x_3 = 0 →
  (0 ≤ mc ∧ 0 ≤ ms ∧ Post (-2 : Int64) hp_1 nx_2)) ∧
  (¬ x_3 = 0 →
  (zgR hp_1 (some h0) [0] 29 fun r_7 =>
  (zaR (g.2.1 12) hp_1 r_7 fun a_8 n_9 f_10 => vp_in x1 n_9 ∧ ∀ r_11 : Option Nat, r_11 = f_10 x1.toNatClampNeg →
  (zgR hp_1 r_11 [3] 0 fun r_15 =>
  ((r_15 = none →
  (0 ≤ mc ∧ 0 ≤ ms ∧ Post (-11 : Int64) hp_1 nx_2)) ∧
  (¬ r_15 = none →
  (zgR hp_1 (some h0) [0] 29 fun r_19 =>
  (zaR (g.2.1 12) hp_1 r_19 fun a_20 n_21 f_22 => vp_in x1 n_21 ∧ ∀ r_23 : Option Nat, r_23 = f_22 x1.toNatClampNeg →
  (∃ c_24 s_25 : Nat, 0 + c_24 ≤ mc ∧ 0 + s_25 ≤ ms ∧ zo hp_1 r_23 [3] fun a_32 ci_33 fs_34 => zMx l g yX3_bits cX3_bits 4 (some .long) d c_24 s_25 (.ref a_32 :: [.int x2]) hp_1 nx_2 (zQl g fun x_28 hp_26 nx_27 =>
  ((0 + c_24) ≤ mc ∧ (0 + s_25) ≤ ms ∧ Post x_28 hp_26 nx_27)) "java/lang/ArrayIndexOutOfBoundsException" (fun q_29 hp_30 nx_31 =>
  ((0 + c_24) ≤ mc ∧ (0 + s_25) ≤ ms ∧ Post (-12 : Int64) hp_30 nx_31))))))))))))))
set_option maxHeartbeats 40000000 in
theorem mv_X0_item {l : Launch} {g : zG} {d : Nat} {mc ms : Nat} {h0 : Nat} {x1 : Int32} {x2 : Int32} {hp : zHp} {nx : Nat} {Post : Int64 → zHp → Nat → Prop} (hw : wv_X0_item l g d mc ms h0 x1 x2 hp nx Post) : zMtW l g yX0_item cX0_item 4 (some .long) [(27, 37, 38, 484)] (d + 1) mc ms [.ref h0, .int x1, .int x2] hp nx (zQl g Post) := by
  refine z_startT (by decide) (Nat.le_of_ble_eq_true rfl) ?_
  intro p e s m below meth c hk hr hin htb hH hz ls hl
  have hx := hk.1.1
  have hb := hk.1.2.1
  have hown := hk.1.2.2.2.1
  have hts := hk.1.2.2.2.2
  have hS : va_S (zAd g) s.heap s.heap [] := va_S.rf
  have hl : lv_has ls 4 [(0, va_rf (some h0)), (1, .int x1), (2, .int x2)] := hl
  unfold wv_X0_item at hw
  refine lv_iload_n hx hb dX0_item_0 rfl (lv_at hl 1 rfl) ?_
  obtain ⟨hcl, hsl, hw⟩ := hw
  refine zr_calli (zr_runS (As := [.int x1]) hk hH hz hS hl.1 hw (va_cwS 1 hts (lw_S q2425 q2426 q131 q2427) rfl rfl rfl (by decide +kernel) (z_room (Nat.le_of_ble_eq_true rfl))) rfl rfl (Nat.le_of_ble_eq_true rfl) dX0_item_1 ⟨hcl, hsl⟩) hS (fun x_3 hp_1 nx_2 hw H locs hH hz hS => ?_)
  refine lv_if_ne (tgt := 11) hx hb dX0_item_4 (by decide) (fun hc => ?_) (fun hc => ?_)
  · have hw := hw.2 hc
    refine zr_aload_n (r := some h0) hx hb dX0_item_11 rfl (lv_at hl 0 rfl) ?_
    obtain ⟨a_4, ci_5, fs_6, r_7, er, he, hc, hv, hw⟩ := zgR_e hw
    refine zw_get hk hH er he hv (fk_X0_121 hc) dX0_item_12 ?_
    refine lv_iload_n hx hb dX0_item_15 rfl (lv_at hl 1 rfl) ?_
    obtain ⟨a_8, n_9, f_10, er, he, hi, hw⟩ := zaR_e hw
    have hw := hw _ rfl
    refine zw_aald hk hH 12 er he rfl rfl hi dX0_item_16 ?_
    generalize f_10 x1.toNatClampNeg = r_11 at hw ⊢
    obtain ⟨a_12, ci_13, fs_14, r_15, er, he, hc, hv, hw⟩ := zgR_e hw
    refine zw_get hk hH er he hv (fk_X0_479 hc) dX0_item_17 ?_
    refine zr_ifnonnull (r := r_15) (tgt := 27) hx hb dX0_item_20 (by decide) (fun hc => ?_) (fun hc => ?_)
    · have hw := hw.2 hc
      refine zr_aload_n (r := some h0) hx hb dX0_item_27 rfl (lv_at hl 0 rfl) ?_
      obtain ⟨a_16, ci_17, fs_18, r_19, er, he, hc, hv, hw⟩ := zgR_e hw
      refine zw_get hk hH er he hv (fk_X0_121 hc) dX0_item_28 ?_
      refine lv_iload_n hx hb dX0_item_31 rfl (lv_at hl 1 rfl) ?_
      obtain ⟨a_20, n_21, f_22, er, he, hi, hw⟩ := zaR_e hw
      have hw := hw _ rfl
      refine zw_aald hk hH 12 er he rfl rfl hi dX0_item_32 ?_
      generalize f_22 x1.toNatClampNeg = r_23 at hw ⊢
      refine lv_iload_n hx hb dX0_item_33 rfl (lv_at hl 2 rfl) ?_
      obtain ⟨c_24, s_25, hcl, hsl, hw⟩ := hw
      obtain ⟨a_32, ci_33, fs_34, er, he, hc, hw⟩ := zo_e hw
      obtain rfl := List.mem_singleton.mp hc
      refine zy_calll (zy_runV (As := [.int x2]) hk hH hz hS hl.1 er hw (cwV 1 hts (lw_V q2635 q2636 q2637 q153 q2638) rfl rfl rfl (by decide +kernel) (z_room (Nat.le_of_ble_eq_true rfl))) he rfl rfl rfl (Nat.le_of_ble_eq_true rfl) dX0_item_34 ⟨hcl, hsl⟩) hS ?_ (fun x_28 hp_26 nx_27 hw H locs hH hz hS => ?_)
      · intro q_29 hp_30 nx_31 hw H locs hH hz hS hq
        refine zy_catch hk hq (name := "java/lang/ArrayIndexOutOfBoundsException") (tableOf []) ⟨27, 37, 38, 484⟩ (tableOf []) htb (by simp [tableOf, covers]) (by decide) (by decide) q2409 q2421 ?_
        refine zr_astore_n (r := some q_29) (i := 3) (lv' := [(3, va_rf (some q_29)), (0, va_rf (some h0)), (1, .int x1), (2, .int x2)]) hx hb dX0_item_38 rfl hl (by decide) (by first | rfl | simp [List.filter_cons, z_cat, z_catI, z_catJ, z_catF, z_catD]) (fun ls hl => ?_)
        refine lv_ldc2 hx hb hown (hts _ q2641) dX0_item_39 ?_
        obtain ⟨hkc, hks, hw⟩ := hw
        exact zr_lret hk hr hH hz hS hw hkc hks dX0_item_42
      · obtain ⟨hkc, hks, hw⟩ := hw
        exact zr_lret hk hr hH hz hS hw hkc hks dX0_item_37
    · have hw := hw.1 hc
      refine lv_ldc2 hx hb hown (hts _ q2634) dX0_item_23 ?_
      obtain ⟨hkc, hks, hw⟩ := hw
      exact zr_lret hk hr hH hz hS hw hkc hks dX0_item_26
  · have hw := hw.1 hc
    refine lv_ldc2 hx hb hown (hts _ q2310) dX0_item_7 ?_
    obtain ⟨hkc, hks, hw⟩ := hw
    exact zr_lret hk hr hH hz hS hw hkc hks dX0_item_10
