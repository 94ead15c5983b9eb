set_option maxRecDepth 100000
theorem fp_J1_7 {ci : Nat} (h : ci ∈ [4, 12]) : zFp "java/lang/Throwable" 7 ci 0 (.object "java/lang/Throwable") := by
  simp only [List.mem_cons, List.not_mem_nil, or_false] at h
  rcases h with rfl | rfl
  · exact ⟨RX4, TX4, 7, rfl, by decide, q361, rfl, by decide +kernel⟩
  · exact ⟨RX12, TX12, 7, rfl, by decide, q361, rfl, by decide +kernel⟩
theorem fp_J1_17 {ci : Nat} (h : ci ∈ [4, 12]) : zFp "java/lang/Throwable" 17 ci 1 (.array (.object "java/lang/StackTraceElement")) := by
  simp only [List.mem_cons, List.not_mem_nil, or_false] at h
  rcases h with rfl | rfl
  · exact ⟨RX4, TX4, 7, rfl, by decide, q362, rfl, by decide +kernel⟩
  · exact ⟨RX12, TX12, 7, rfl, by decide, q362, rfl, by decide +kernel⟩
theorem fp_J1_24 {ci : Nat} (h : ci ∈ [4, 12]) : zFp "java/lang/Throwable" 24 ci 2 (.object "java/util/List") := by
  simp only [List.mem_cons, List.not_mem_nil, or_false] at h
  rcases h with rfl | rfl
  · exact ⟨RX4, TX4, 7, rfl, by decide, q363, rfl, by decide +kernel⟩
  · exact ⟨RX12, TX12, 7, rfl, by decide, q363, rfl, by decide +kernel⟩
theorem fp_J1_31 {ci : Nat} (h : ci ∈ [4, 12]) : zFp "java/lang/Throwable" 31 ci 3 (.object "java/lang/String") := by
  simp only [List.mem_cons, List.not_mem_nil, or_false] at h
  rcases h with rfl | rfl
  · exact ⟨RX4, TX4, 7, rfl, by decide, q360, rfl, by decide +kernel⟩
  · exact ⟨RX12, TX12, 7, rfl, by decide, q360, rfl, by decide +kernel⟩
def wp_J1_init_4 (l : Launch) (g : zG) (d : Nat) (mc ms : Nat) (h0 : Nat) (r1 : Option Nat) (r2 : Option Nat) (x3 : Int32) (x4 : Int32) (hp : zHp) (nx : Nat) (Post : zHp → Nat → Prop) : Prop :=
  (zpt g hp (some h0) [4, 12] 0 (va_rf (some h0)) fun hp_4 =>
  (∀ r_5 : Option Nat, (zpt g hp_4 (some h0) [4, 12] 1 (va_rf r_5) fun hp_9 =>
  (∀ r_10 : Option Nat, (zpt g hp_9 (some h0) [4, 12] 2 (va_rf r_10) fun hp_14 =>
  (∃ P_41 : zHp → Nat → Nat → Nat → Prop, (∀ (hp_15 : zHp) (nx_16 : Nat) (kc_17 : Nat) (ks_18 : Nat), P_41 hp_15 nx_16 kc_17 ks_18 →
  (zpt g hp_15 (some h0) [4, 12] 3 (va_rf r1) fun hp_22 =>
  (zpt g hp_22 (some h0) [4, 12] 0 (va_rf r2) fun hp_26 =>
  (∃ P_60 : zHp → Nat → Nat → Nat → Prop, (∀ (hp_27 : zHp) (nx_28 : Nat) (kc_29 : Nat) (ks_30 : Nat), P_60 hp_27 nx_28 kc_29 ks_30 →
  (kc_29 ≤ mc ∧ ks_30 ≤ ms ∧ Post hp_27 nx_28)) ∧
  ((x3 = 0 →
  (zpt g hp_26 (some h0) [4, 12] 2 (va_rf none) fun hp_34 =>
  P_60 hp_34 nx_16 kc_17 ks_18)) ∧
  (¬ x3 = 0 →
  P_60 hp_26 nx_16 kc_17 ks_18)))))) ∧
  ((x4 = 0 →
  (zpt g hp_14 (some h0) [4, 12] 1 (va_rf none) fun hp_38 =>
  P_41 hp_38 nx 0 0)) ∧
  (¬ x4 = 0 →
  False))))))))
set_option maxHeartbeats 40000000 in
theorem met_J1_init_4 {l : Launch} {g : zG} {d : Nat} {mc ms : Nat} {h0 : Nat} {r1 : Option Nat} {r2 : Option Nat} {x3 : Int32} {x4 : Int32} {hp : zHp} {nx : Nat} {Post : zHp → Nat → Prop} (hw : wp_J1_init_4 l g d mc ms h0 r1 r2 x3 x4 hp nx Post) : zMt l g yJ1_init_4 cJ1_init_4 5 none (d + 1) mc ms [.ref h0, va_rf r1, va_rf r2, .int x3, .int x4] hp nx (zQv g Post) := by
  refine z_start (by decide) (by cases r1 <;> cases r2 <;> exact Nat.le_of_ble_eq_true rfl) ?_
  intro p e s m below meth c hk hr hin hH hz ls hl
  have hx := hk.1.1
  have hb := hk.1.2.1
  have hown := hk.1.2.2.2.1
  have hts := hk.1.2.2.2.2
  have hS : va_S (zAd g) s.heap s.heap [] := va_S.rf
  have hl : lv_has ls 5 [(0, va_rf (some h0)), (1, va_rf r1), (2, va_rf r2), (3, .int x3), (4, .int x4)] := by cases r1 <;> cases r2 <;> exact hl
  unfold wp_J1_init_4 at hw
  refine zr_aload_n (r := some h0) hx hb dJ1_init_4_0 rfl (lv_at hl 0 rfl) ?_
  refine W.objInit (a := h0) hx hb hown (hts _ q310) (hts _ q206) (hts _ q207) rfl (by rw [hk.1.2.2.1]; exact hl.1) rfl dJ1_init_4_1 (Nat.le_add_left 1 d) (Nat.le_trans (Nat.le_of_ble_eq_true rfl : _ ≤ 64) (by show 64 ≤ 64 * (d + 1); omega)) ?_
  refine W.eq (g2 := F0 m 4 ls []) rfl ?_
  refine zr_aload_n (r := some h0) hx hb dJ1_init_4_4 rfl (lv_at hl 0 rfl) ?_
  refine zr_aload_n (r := some h0) hx hb dJ1_init_4_5 rfl (lv_at hl 0 rfl) ?_
  obtain ⟨a_1, ci_2, fs_3, hp_4, er, he, hc, hA, hkl, eh, hw⟩ := zpt_e hw
  refine zw_put hk hH hz hS er he hA hkl eh (fp_J1_7 hc) (z_narR _ _) (z_fitR _ _) dJ1_init_4_6 (fun H locs hH hz hS => ?_)
  refine zr_aload_n (r := some h0) hx hb dJ1_init_4_9 rfl (lv_at hl 0 rfl) ?_
  refine zw_getsq hk hS 0 rfl q311 dJ1_init_4_10 (fun r_5 => ?_)
  have hw := hw r_5
  obtain ⟨a_6, ci_7, fs_8, hp_9, er, he, hc, hA, hkl, eh, hw⟩ := zpt_e hw
  refine zw_put hk hH hz hS er he hA hkl eh (fp_J1_17 hc) (z_narA _ _) (z_fitA _ _) dJ1_init_4_13 (fun H locs hH hz hS => ?_)
  refine zr_aload_n (r := some h0) hx hb dJ1_init_4_16 rfl (lv_at hl 0 rfl) ?_
  refine zw_getsq hk hS 1 rfl q313 dJ1_init_4_17 (fun r_10 => ?_)
  have hw := hw r_10
  obtain ⟨a_11, ci_12, fs_13, hp_14, er, he, hc, hA, hkl, eh, hw⟩ := zpt_e hw
  refine zw_put hk hH hz hS er he hA hkl eh (fp_J1_24 hc) (z_narR _ _) (z_fitR _ _) dJ1_init_4_20 (fun H locs hH hz hS => ?_)
  refine lv_iload hx hb dJ1_init_4_23 (lv_at hl 4 rfl) ?_
  obtain ⟨P_41, hP_41, hw⟩ := hw
  have hJ_41 : ∀ (hp_15 : zHp) (nx_16 : Nat) (kc_17 : Nat) (ks_18 : Nat) (H : Heap) (locs : List Loc) (ls : Array Slot), P_41 hp_15 nx_16 kc_17 ks_18 → lv_has ls 5 [(0, va_rf (some h0)), (1, va_rf r1), (2, va_rf r2), (3, .int x3), (4, .int x4)] → zHd g hp_15 H → H.size = nx_16 → va_S (zAd g) s.heap H locs → W p l e (zrm (d + 1) mc ms) s m ([.ref h0, va_rf r1, va_rf r2, .int x3, .int x4] : List Value).toArray below meth c H locs kc_17 ks_18 (MQ below (zQv g Post) ([.ref h0, va_rf r1, va_rf r2, .int x3, .int x4] : List Value).toArray s mc ms (zAd g)) (F0 m 41 ls []) := by
    intro hp_15 nx_16 kc_17 ks_18 H locs ls hw hl hH hz hS
    have hw := hP_41 hp_15 nx_16 kc_17 ks_18 hw
    refine zr_aload_n (r := some h0) hx hb dJ1_init_4_41 rfl (lv_at hl 0 rfl) ?_
    refine zr_aload_n (r := r1) hx hb dJ1_init_4_42 rfl (lv_at hl 1 rfl) ?_
    obtain ⟨a_19, ci_20, fs_21, hp_22, er, he, hc, hA, hkl, eh, hw⟩ := zpt_e hw
    refine zw_put hk hH hz hS er he hA hkl eh (fp_J1_31 hc) (z_narR _ _) (z_fitR _ _) dJ1_init_4_43 (fun H locs hH hz hS => ?_)
    refine zr_aload_n (r := some h0) hx hb dJ1_init_4_46 rfl (lv_at hl 0 rfl) ?_
    refine zr_aload_n (r := r2) hx hb dJ1_init_4_47 rfl (lv_at hl 2 rfl) ?_
    obtain ⟨a_23, ci_24, fs_25, hp_26, er, he, hc, hA, hkl, eh, hw⟩ := zpt_e hw
    refine zw_put hk hH hz hS er he hA hkl eh (fp_J1_7 hc) (z_narR _ _) (z_fitR _ _) dJ1_init_4_48 (fun H locs hH hz hS => ?_)
    refine lv_iload_n hx hb dJ1_init_4_51 rfl (lv_at hl 3 rfl) ?_
    obtain ⟨P_60, hP_60, hw⟩ := hw
    have hJ_60 : ∀ (hp_27 : zHp) (nx_28 : Nat) (kc_29 : Nat) (ks_30 : Nat) (H : Heap) (locs : List Loc) (ls : Array Slot), P_60 hp_27 nx_28 kc_29 ks_30 → lv_has ls 5 [(0, va_rf (some h0)), (1, va_rf r1), (2, va_rf r2), (3, .int x3), (4, .int x4)] → zHd g hp_27 H → H.size = nx_28 → va_S (zAd g) s.heap H locs → W p l e (zrm (d + 1) mc ms) s m ([.ref h0, va_rf r1, va_rf r2, .int x3, .int x4] : List Value).toArray below meth c H locs kc_29 ks_30 (MQ below (zQv g Post) ([.ref h0, va_rf r1, va_rf r2, .int x3, .int x4] : List Value).toArray s mc ms (zAd g)) (F0 m 60 ls []) := by
      intro hp_27 nx_28 kc_29 ks_30 H locs ls hw hl hH hz hS
      have hw := hP_60 hp_27 nx_28 kc_29 ks_30 hw
      obtain ⟨hkc, hks, hw⟩ := hw
      exact zr_vret hk hr hH hz hS hw hkc hks dJ1_init_4_60
    refine lv_if_ne (tgt := 60) hx hb dJ1_init_4_52 (by decide) (fun hc => ?_) (fun hc => ?_)
    · have hw := hw.2 hc
      exact hJ_60 hp_26 nx_16 kc_17 ks_18 _ _ _ hw hl hH hz hS
    · have hw := hw.1 hc
      refine zr_aload_n (r := some h0) hx hb dJ1_init_4_55 rfl (lv_at hl 0 rfl) ?_
      refine zx_null hx hb dJ1_init_4_56 ?_
      obtain ⟨a_31, ci_32, fs_33, hp_34, er, he, hc, hA, hkl, eh, hw⟩ := zpt_e hw
      refine zw_put hk hH hz hS er he hA hkl eh (fp_J1_24 hc) (z_narR _ _) (z_fitR _ _) dJ1_init_4_57 (fun H locs hH hz hS => ?_)
      exact hJ_60 hp_34 nx_16 kc_17 ks_18 _ _ _ hw hl hH hz hS
  refine lv_if_eq (tgt := 36) hx hb dJ1_init_4_25 (by decide) (fun hc => ?_) (fun hc => ?_)
  · have hw := hw.1 hc
    refine zr_aload_n (r := some h0) hx hb dJ1_init_4_36 rfl (lv_at hl 0 rfl) ?_
    refine zx_null hx hb dJ1_init_4_37 ?_
    obtain ⟨a_35, ci_36, fs_37, hp_38, er, he, hc, hA, hkl, eh, hw⟩ := zpt_e hw
    refine zw_put hk hH hz hS er he hA hkl eh (fp_J1_17 hc) (z_narA _ _) (z_fitA _ _) dJ1_init_4_38 (fun H locs hH hz hS => ?_)
    exact hJ_41 hp_38 nx 0 0 _ _ _ hw hl hH hz hS
  · have hw := hw.2 hc
    refine zr_aload_n (r := some h0) hx hb dJ1_init_4_28 rfl (lv_at hl 0 rfl) ?_
    exact hw.elim
