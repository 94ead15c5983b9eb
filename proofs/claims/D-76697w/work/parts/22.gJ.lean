set_option maxRecDepth 100000
theorem fp_J0_7 {ci : Nat} (h : ci ∈ [34]) : zFp "java/util/BitSet" 7 ci 1 .int := by
  simp only [List.mem_cons, List.not_mem_nil, or_false] at h
  rcases h with rfl
  · exact ⟨RJ0, TJ0, 3, rfl, by decide, q614, rfl, by decide +kernel⟩
theorem fp_J0_24 {ci : Nat} (h : ci ∈ [34]) : zFp "java/util/BitSet" 24 ci 2 .boolean := by
  simp only [List.mem_cons, List.not_mem_nil, or_false] at h
  rcases h with rfl
  · exact ⟨RJ0, TJ0, 3, rfl, by decide, q615, rfl, by decide +kernel⟩
def wp_J0_init (l : Launch) (g : zG) (d : Nat) (mc ms : Nat) (h0 : Nat) (x1 : Int32) (hp : zHp) (nx : Nat) (Post : zHp → Nat → Prop) : Prop :=
  (zpt g hp (some h0) [34] 1 (.int (0 : Int32)) fun hp_4 =>
  (zpt g hp_4 (some h0) [34] 2 (.int (0 : Int32)) fun hp_8 =>
  ((0 ≤ x1 →
  (∃ c_9 s_10 : Nat, 0 + c_9 ≤ mc ∧ 0 + s_10 ≤ ms ∧ zo hp_8 (some h0) [34] fun a_17 ci_18 fs_19 => zMt l g yJ0_initWords cJ0_initWords 2 none d c_9 s_10 (.ref a_17 :: [.int x1]) hp_8 nx (zQv g fun hp_11 nx_12 =>
  (zpt g hp_11 (some h0) [34] 2 (.int (1 : Int32)) fun hp_16 =>
  ((0 + c_9) ≤ mc ∧ (0 + s_10) ≤ ms ∧ Post hp_16 nx_12))))) ∧
  (¬ 0 ≤ x1 →
  False))))
set_option maxHeartbeats 40000000 in
theorem met_J0_init {l : Launch} {g : zG} {d : Nat} {mc ms : Nat} {h0 : Nat} {x1 : Int32} {hp : zHp} {nx : Nat} {Post : zHp → Nat → Prop} (hw : wp_J0_init l g d mc ms h0 x1 hp nx Post) : zMt l g yJ0_init cJ0_init 2 none (d + 1) mc ms [.ref h0, .int x1] hp nx (zQv g Post) := by
  refine z_start (by decide) (Nat.le_of_ble_eq_true rfl) ?_
  intro p e s m below meth c hk hr hin hH hz ls hl
  have hx := hk.1.1
  have hb := hk.1.2.1
  have hown := hk.1.2.2.2.1
  have hts := hk.1.2.2.2.2
  have hS : va_S (zAd g) s.heap s.heap [] := va_S.rf
  have hl : lv_has ls 2 [(0, va_rf (some h0)), (1, .int x1)] := hl
  unfold wp_J0_init at hw
  refine zr_aload_n (r := some h0) hx hb dJ0_init_0 rfl (lv_at hl 0 rfl) ?_
  refine W.objInit (a := h0) hx hb hown (hts _ q284) (hts _ q206) (hts _ q207) rfl (by rw [hk.1.2.2.1]; exact hl.1) rfl dJ0_init_1 (Nat.le_add_left 1 d) (Nat.le_trans (Nat.le_of_ble_eq_true rfl : _ ≤ 64) (by show 64 ≤ 64 * (d + 1); omega)) ?_
  refine W.eq (g2 := F0 m 4 ls []) rfl ?_
  refine zr_aload_n (r := some h0) hx hb dJ0_init_4 rfl (lv_at hl 0 rfl) ?_
  refine lv_iconst (v := (0 : Int32)) hx hb dJ0_init_5 (by decide) ?_
  obtain ⟨a_1, ci_2, fs_3, hp_4, er, he, hc, hA, hkl, eh, hw⟩ := zpt_e hw
  refine zw_put hk hH hz hS er he hA hkl eh (fp_J0_7 hc) rfl rfl dJ0_init_6 (fun H locs hH hz hS => ?_)
  refine zr_aload_n (r := some h0) hx hb dJ0_init_9 rfl (lv_at hl 0 rfl) ?_
  refine lv_iconst (v := (0 : Int32)) hx hb dJ0_init_10 (by decide) ?_
  obtain ⟨a_5, ci_6, fs_7, hp_8, er, he, hc, hA, hkl, eh, hw⟩ := zpt_e hw
  refine zw_put hk hH hz hS er he hA hkl eh (fp_J0_24 hc) (z_nb (Or.inl rfl)) (z_fb (Or.inl rfl)) dJ0_init_11 (fun H locs hH hz hS => ?_)
  refine lv_iload_n hx hb dJ0_init_14 rfl (lv_at hl 1 rfl) ?_
  refine lv_if_ge (tgt := 45) hx hb dJ0_init_15 (by decide) (fun hc => ?_) (fun hc => ?_)
  · have hw := hw.1 hc
    refine zr_aload_n (r := some h0) hx hb dJ0_init_45 rfl (lv_at hl 0 rfl) ?_
    refine lv_iload_n hx hb dJ0_init_46 rfl (lv_at hl 1 rfl) ?_
    obtain ⟨c_9, s_10, hcl, hsl, hw⟩ := hw
    obtain ⟨a_17, ci_18, fs_19, er, he, hc, hw⟩ := zo_e hw
    obtain rfl := List.mem_singleton.mp hc
    refine zr_callv (zw_runV (As := [.int x1]) hk hH hz hS hl.1 er hw (cwV 1 hts (lw_V q606 q608 qs1 q133 q609) rfl rfl rfl (by decide +kernel) (z_room (Nat.le_of_ble_eq_true rfl))) he rfl rfl rfl (Nat.le_of_ble_eq_true rfl) dJ0_init_47 ⟨hcl, hsl⟩) hS (fun hp_11 nx_12 hw H locs hH hz hS => ?_)
    refine zr_aload_n (r := some h0) hx hb dJ0_init_50 rfl (lv_at hl 0 rfl) ?_
    refine lv_iconst (v := (1 : Int32)) hx hb dJ0_init_51 (by decide) ?_
    obtain ⟨a_13, ci_14, fs_15, hp_16, er, he, hc, hA, hkl, eh, hw⟩ := zpt_e hw
    refine zw_put hk hH hz hS er he hA hkl eh (fp_J0_24 hc) (z_nb (Or.inr rfl)) (z_fb (Or.inr rfl)) dJ0_init_52 (fun H locs hH hz hS => ?_)
    obtain ⟨hkc, hks, hw⟩ := hw
    exact zr_vret hk hr hH hz hS hw hkc hks dJ0_init_55
  · have hw := hw.2 hc
    exact hw.elim
theorem fp_J0_11 {ci : Nat} (h : ci ∈ [34]) : zFp "java/util/BitSet" 11 ci 0 (.array .long) := by
  simp only [List.mem_cons, List.not_mem_nil, or_false] at h
  rcases h with rfl
  · exact ⟨RJ0, TJ0, 3, rfl, by decide, q613, rfl, by decide +kernel⟩
def wp_J0_initWords (l : Launch) (g : zG) (d : Nat) (mc ms : Nat) (h0 : Nat) (x1 : Int32) (hp : zHp) (nx : Nat) (Post : zHp → Nat → Prop) : Prop :=
  (0 ≤ mc ∧ 0 ≤ ms ∧ zMt l g yJ0_wordIndex cJ0_wordIndex 1 (some .int) d 0 0 [.int (x1 - (1 : Int32))] hp nx (zQi g fun x_3 hp_1 nx_2 =>
  (zna g mc ms hp_1 nx_2 0 0 4 (x_3 + (1 : Int32)) (.inr (.inl (fun _ => 0))) fun hp_4 =>
  ∀ nx_5 kc_6 ks_7 : Nat, nx_5 = (nx_2 + 1) → kc_6 = (0 + 1) → ks_7 = (0 + (x_3 + (1 : Int32)).toNatClampNeg) →
  (zpt g hp_4 (some h0) [34] 0 (va_rf (some nx_2)) fun hp_11 =>
  (kc_6 ≤ mc ∧ ks_7 ≤ ms ∧ Post hp_11 nx_5)))))
set_option maxHeartbeats 40000000 in
theorem met_J0_initWords {l : Launch} {g : zG} {d : Nat} {mc ms : Nat} {h0 : Nat} {x1 : Int32} {hp : zHp} {nx : Nat} {Post : zHp → Nat → Prop} (hw : wp_J0_initWords l g d mc ms h0 x1 hp nx Post) : zMt l g yJ0_initWords cJ0_initWords 2 none (d + 1) mc ms [.ref h0, .int x1] hp nx (zQv g Post) := by
  refine z_start (by decide) (Nat.le_of_ble_eq_true rfl) ?_
  intro p e s m below meth c hk hr hin hH hz ls hl
  have hx := hk.1.1
  have hb := hk.1.2.1
  have hown := hk.1.2.2.2.1
  have hts := hk.1.2.2.2.2
  have hS : va_S (zAd g) s.heap s.heap [] := va_S.rf
  have hl : lv_has ls 2 [(0, va_rf (some h0)), (1, .int x1)] := hl
  unfold wp_J0_initWords at hw
  refine zr_aload_n (r := some h0) hx hb dJ0_initWords_0 rfl (lv_at hl 0 rfl) ?_
  refine lv_iload_n hx hb dJ0_initWords_1 rfl (lv_at hl 1 rfl) ?_
  refine lv_iconst (v := (1 : Int32)) hx hb dJ0_initWords_2 (by decide) ?_
  refine lv_isub hx hb dJ0_initWords_3 ?_
  obtain ⟨hcl, hsl, hw⟩ := hw
  refine zr_calli (zr_runS (As := [.int (x1 - (1 : Int32))]) hk hH hz hS hl.1 hw (va_cwS 1 hts (lw_S q610 q611 q133 q612) rfl rfl rfl (by decide +kernel) (z_room (Nat.le_of_ble_eq_true rfl))) rfl rfl (by simp only [List.map_cons, List.map_nil, z_cat]; exact Nat.le_of_ble_eq_true rfl) dJ0_initWords_4 ⟨hcl, hsl⟩) hS (fun x_3 hp_1 nx_2 hw H locs hH hz hS => ?_)
  refine lv_iconst (v := (1 : Int32)) hx hb dJ0_initWords_7 (by decide) ?_
  refine lv_iadd hx hb dJ0_initWords_8 ?_
  obtain ⟨hn0, hn1, hcl, hsl, hw⟩ := hw
  refine zx_newa hk hH hz hS (atype := .long) 4 (ty := .long) rfl q623 rfl (fun _ _ h => h) (a0 := ((x_3 + (1 : Int32)).toNatClampNeg, .inr (.inl (fun _ => 0)))) (fun _ => rfl) hn0 rfl (by simp only [componentBytes]; omega) hcl hsl dJ0_initWords_9 (fun H hH hz hS hlt hnb => ?_)
  have hw := hw hlt hnb
  generalize va_up hp_1 nx_2 _ = hp_4 at hH hw
  obtain ⟨kc_6, ekc⟩ : ∃ k, k = (0 + 1) := ⟨_, rfl⟩
  obtain ⟨ks_7, eks⟩ : ∃ k, k = (0 + (x_3 + (1 : Int32)).toNatClampNeg) := ⟨_, rfl⟩
  have hw := hw _ _ _ rfl ekc eks
  refine W.widen (Nat.le_of_eq ekc.symm) (Nat.le_of_eq eks.symm) ?_
  clear ekc eks
  generalize (nx_2 + 1) = nx_5 at hz hw
  obtain ⟨a_8, ci_9, fs_10, hp_11, er, he, hc, hA, hkl, eh, hw⟩ := zpt_e hw
  refine zw_put hk hH hz hS er he hA hkl eh (fp_J0_11 hc) (z_narA _ _) (z_fitA _ _) dJ0_initWords_11 (fun H locs hH hz hS => ?_)
  obtain ⟨hkc, hks, hw⟩ := hw
  exact zr_vret hk hr hH hz hS hw hkc hks dJ0_initWords_14
def wp_J0_wordIndex (l : Launch) (g : zG) (d : Nat) (x0 : Int32) (hp : zHp) (nx : Nat) (Post : Int32 → zHp → Nat → Prop) : Prop :=
  (Post (x0 >>> ((6 : Int32) &&& 31)) hp nx)
set_option maxHeartbeats 40000000 in
theorem met_J0_wordIndex {l : Launch} {g : zG} {d : Nat} {x0 : Int32} {hp : zHp} {nx : Nat} {Post : Int32 → zHp → Nat → Prop} (hw : wp_J0_wordIndex l g d x0 hp nx Post) : zMt l g yJ0_wordIndex cJ0_wordIndex 1 (some .int) (d + 1) 0 0 [.int x0] hp nx (zQi g Post) := by
  refine z_start (by decide) (Nat.le_of_ble_eq_true rfl) ?_
  intro p e s m below meth c hk hr hin hH hz ls hl
  have hx := hk.1.1
  have hb := hk.1.2.1
  have hown := hk.1.2.2.2.1
  have hts := hk.1.2.2.2.2
  have hS : va_S (zAd g) s.heap s.heap [] := va_S.rf
  have hl : lv_has ls 1 [(0, .int x0)] := hl
  unfold wp_J0_wordIndex at hw
  refine lv_iload_n hx hb dJ0_wordIndex_0 rfl (lv_at hl 0 rfl) ?_
  refine lv_bipush (v := (6 : Int32)) hx hb dJ0_wordIndex_1 (by decide) ?_
  refine lv_ishr hx hb dJ0_wordIndex_3 ?_
  exact zr_iret hk hr hH hz hS hw (Nat.le_of_ble_eq_true rfl) (Nat.le_of_ble_eq_true rfl) dJ0_wordIndex_4
theorem fk_J0_7 {ci : Nat} (h : ci ∈ [34]) : zFk "java/util/BitSet" 7 ci 1 := by
  simp only [List.mem_cons, List.not_mem_nil, or_false] at h
  rcases h with rfl
  · exact ⟨RJ0, TJ0, 3, rfl, by decide, q614⟩
theorem fk_J0_11 {ci : Nat} (h : ci ∈ [34]) : zFk "java/util/BitSet" 11 ci 0 := by
  simp only [List.mem_cons, List.not_mem_nil, or_false] at h
  rcases h with rfl
  · exact ⟨RJ0, TJ0, 3, rfl, by decide, q613⟩
def wp_J0_get (l : Launch) (g : zG) (d : Nat) (h0 : Nat) (x1 : Int32) (hp : zHp) (nx : Nat) (Post : Int32 → zHp → Nat → Prop) : Prop :=
  ((0 ≤ x1 →
  (zo hp (some h0) [34] fun a_25 ci_26 fs_27 => zMt l g yJ0_checkInvariants cJ0_checkInvariants 1 none d 0 0 (.ref a_25 :: []) hp nx (zQv g fun hp_1 nx_2 =>
  (zMt l g yJ0_wordIndex cJ0_wordIndex 1 (some .int) d 0 0 [.int x1] hp_1 nx_2 (zQi g fun x_5 hp_3 nx_4 =>
  (zgI hp_3 (some h0) [34] 1 fun x_9 =>
  (∃ P_68 : Int32 → Int32 → zHp → Nat → Prop, (∀ (x_10 : Int32) (x_11 : Int32) (hp_12 : zHp) (nx_13 : Nat), P_68 x_10 x_11 hp_12 nx_13 →
  (((x_11 = 0 ∨ x_11 = 1) ∧ Post x_11 hp_12 nx_13))) ∧
  (∃ P_67 : Int32 → zHp → Nat → Prop, (∀ (x_14 : Int32) (hp_15 : zHp) (nx_16 : Nat), P_67 x_14 hp_15 nx_16 →
  P_68 x_14 (0 : Int32) hp_15 nx_16) ∧
  ((x_9 ≤ x_5 →
  P_67 x_5 hp_3 nx_4) ∧
  (¬ x_9 ≤ x_5 →
  (zgR hp_3 (some h0) [34] 0 fun r_20 =>
  (zaJ (g.2.1 4) hp_3 r_20 fun a_21 n_22 f_23 => vp_in x_5 n_22 ∧ ∀ x_24 : Int64, x_24 = f_23 x_5.toNatClampNeg →
  (((lg_cmp (x_24 &&& ((1 : Int64) <<< (x1.toInt64 &&& 63))) (0 : Int64)) = 0 →
  P_67 x_5 hp_3 nx_4) ∧
  (¬ (lg_cmp (x_24 &&& ((1 : Int64) <<< (x1.toInt64 &&& 63))) (0 : Int64)) = 0 →
  P_68 x_5 (1 : Int32) hp_3 nx_4)))))))))))))) ∧
  (¬ 0 ≤ x1 →
  False))
set_option maxHeartbeats 40000000 in
theorem met_J0_get {l : Launch} {g : zG} {d : Nat} {h0 : Nat} {x1 : Int32} {hp : zHp} {nx : Nat} {Post : Int32 → zHp → Nat → Prop} (hw : wp_J0_get l g d h0 x1 hp nx Post) : zMt l g yJ0_get cJ0_get 3 (some .boolean) (d + 1) 0 0 [.ref h0, .int x1] hp nx (zQi g Post) := by
  refine z_start (by decide) (Nat.le_of_ble_eq_true rfl) ?_
  intro p e s m below meth c hk hr hin hH hz ls hl
  have hx := hk.1.1
  have hb := hk.1.2.1
  have hown := hk.1.2.2.2.1
  have hts := hk.1.2.2.2.2
  have hS : va_S (zAd g) s.heap s.heap [] := va_S.rf
  have hl : lv_has ls 3 [(0, va_rf (some h0)), (1, .int x1)] := hl
  unfold wp_J0_get at hw
  refine lv_iload_n hx hb dJ0_get_0 rfl (lv_at hl 1 rfl) ?_
  refine lv_if_ge (tgt := 31) hx hb dJ0_get_1 (by decide) (fun hc => ?_) (fun hc => ?_)
  · have hw := hw.1 hc
    refine zr_aload_n (r := some h0) hx hb dJ0_get_31 rfl (lv_at hl 0 rfl) ?_
    obtain ⟨a_25, ci_26, fs_27, er, he, hc, hw⟩ := zo_e hw
    obtain rfl := List.mem_singleton.mp hc
    refine zr_callv (zw_runV (As := []) hk hH hz hS hl.1 er hw (cwV 0 hts (lw_V q724 q726 qs6 q133 q727) rfl rfl rfl (by decide +kernel) (z_room (Nat.le_of_ble_eq_true rfl))) he rfl rfl rfl (Nat.le_of_ble_eq_true rfl) dJ0_get_32 ⟨Nat.le_of_ble_eq_true rfl, Nat.le_of_ble_eq_true rfl⟩) hS (fun hp_1 nx_2 hw H locs hH hz hS => ?_)
    refine lv_iload_n hx hb dJ0_get_35 rfl (lv_at hl 1 rfl) ?_
    refine zr_calli (zr_runS (As := [.int x1]) hk hH hz hS hl.1 hw (va_cwS 1 hts (lw_S q610 q611 q133 q612) rfl rfl rfl (by decide +kernel) (z_room (Nat.le_of_ble_eq_true rfl))) rfl rfl (Nat.le_of_ble_eq_true rfl) dJ0_get_36 ⟨Nat.le_of_ble_eq_true rfl, Nat.le_of_ble_eq_true rfl⟩) hS (fun x_5 hp_3 nx_4 hw H locs hH hz hS => ?_)
    refine lv_istore_n (i := 2) (lv' := [(2, .int x_5), (0, va_rf (some h0)), (1, .int x1)]) hx hb dJ0_get_39 rfl hl (by decide) (by first | rfl | simp [List.filter_cons, z_cat, z_catI, z_catJ, z_catF, z_catD]) (fun ls hl => ?_)
    refine lv_iload_n hx hb dJ0_get_40 rfl (lv_at hl 0 rfl) ?_
    refine zr_aload_n (r := some h0) hx hb dJ0_get_41 rfl (lv_at hl 1 rfl) ?_
    obtain ⟨a_6, ci_7, fs_8, x_9, er, he, hc, hv, hw⟩ := zgI_e hw
    refine zw_get hk hH er he hv (fk_J0_7 hc) dJ0_get_42 ?_
    obtain ⟨P_68, hP_68, hw⟩ := hw
    have hJ_68 : ∀ (x_10 : Int32) (x_11 : Int32) (hp_12 : zHp) (nx_13 : Nat) (H : Heap) (locs : List Loc) (ls : Array Slot), P_68 x_10 x_11 hp_12 nx_13 → lv_has ls 3 [(0, va_rf (some h0)), (1, .int x1), (2, .int x_10)] → zHd g hp_12 H → H.size = nx_13 → va_S (zAd g) s.heap H locs → W p l e (zrm (d + 1) 0 0) s m ([.ref h0, .int x1] : List Value).toArray below meth c H locs 0 0 (MQ below (zQi g Post) ([.ref h0, .int x1] : List Value).toArray s 0 0 (zAd g)) (F0 m 68 ls [.int x_11]) := by
      intro x_10 x_11 hp_12 nx_13 H locs ls hw hl hH hz hS
      have hw := hP_68 x_10 x_11 hp_12 nx_13 hw
      exact zr_zret hk hr hH hz hS hw.1 hw.2 (Nat.le_of_ble_eq_true rfl) (Nat.le_of_ble_eq_true rfl) dJ0_get_68
    obtain ⟨P_67, hP_67, hw⟩ := hw
    have hJ_67 : ∀ (x_14 : Int32) (hp_15 : zHp) (nx_16 : Nat) (H : Heap) (locs : List Loc) (ls : Array Slot), P_67 x_14 hp_15 nx_16 → lv_has ls 3 [(0, va_rf (some h0)), (1, .int x1), (2, .int x_14)] → zHd g hp_15 H → H.size = nx_16 → va_S (zAd g) s.heap H locs → W p l e (zrm (d + 1) 0 0) s m ([.ref h0, .int x1] : List Value).toArray below meth c H locs 0 0 (MQ below (zQi g Post) ([.ref h0, .int x1] : List Value).toArray s 0 0 (zAd g)) (F0 m 67 ls []) := by
      intro x_14 hp_15 nx_16 H locs ls hw hl hH hz hS
      have hw := hP_67 x_14 hp_15 nx_16 hw
      refine lv_iconst (v := (0 : Int32)) hx hb dJ0_get_67 (by decide) ?_
      exact hJ_68 x_14 (0 : Int32) hp_15 nx_16 _ _ _ hw hl hH hz hS
    refine lv_icmp_ge (tgt := 67) hx hb dJ0_get_45 (by decide) (fun hc => ?_) (fun hc => ?_)
    · have hw := hw.1 hc
      exact hJ_67 x_5 hp_3 nx_4 _ _ _ hw (lv_sub hl [1, 2, 0] rfl) hH hz hS
    · have hw := hw.2 hc
      refine zr_aload_n (r := some h0) hx hb dJ0_get_48 rfl (lv_at hl 1 rfl) ?_
      obtain ⟨a_17, ci_18, fs_19, r_20, er, he, hc, hv, hw⟩ := zgR_e hw
      refine zw_get hk hH er he hv (fk_J0_11 hc) dJ0_get_49 ?_
      refine lv_iload_n hx hb dJ0_get_52 rfl (lv_at hl 0 rfl) ?_
      obtain ⟨a_21, n_22, f_23, er, he, hi, hw⟩ := zaJ_e hw
      have hw := hw _ rfl
      refine zw_lald hk hH er he hi dJ0_get_53 ?_
      generalize f_23 x_5.toNatClampNeg = x_24 at hw ⊢
      refine lv_lconst (v := (1 : Int64)) hx hb dJ0_get_54 (by decide) ?_
      refine lv_iload_n hx hb dJ0_get_55 rfl (lv_at hl 2 rfl) ?_
      refine lv_lshl hx hb dJ0_get_56 rfl ?_
      refine lv_land hx hb dJ0_get_57 ?_
      refine lv_lconst (v := (0 : Int64)) hx hb dJ0_get_58 (by decide) ?_
      refine W.lcmp hx hb dJ0_get_59 ?_
      refine lv_if_eq (tgt := 67) hx hb dJ0_get_60 (by decide) (fun hc => ?_) (fun hc => ?_)
      · have hw := hw.1 hc
        exact hJ_67 x_5 hp_3 nx_4 _ _ _ hw (lv_sub hl [1, 2, 0] rfl) hH hz hS
      · have hw := hw.2 hc
        refine lv_iconst (v := (1 : Int32)) hx hb dJ0_get_63 (by decide) ?_
        refine lv_goto (tgt := 68) hx hb dJ0_get_64 (by decide) ?_
        exact hJ_68 x_5 (1 : Int32) hp_3 nx_4 _ _ _ hw (lv_sub hl [1, 2, 0] rfl) hH hz hS
  · have hw := hw.2 hc
    exact hw.elim
def wp_J0_checkInvariants (l : Launch) (g : zG) (d : Nat) (h0 : Nat) (hp : zHp) (nx : Nat) (Post : zHp → Nat → Prop) : Prop :=
  (∃ P_37 : Prop, (P_37 →
  (∃ P_70 : Prop, (P_70 →
  (∃ P_110 : Prop, (P_110 →
  (Post hp nx)) ∧
  (((1 : Int32) = 0 →
  (zgI hp (some h0) [34] 1 fun x_4 =>
  (zgR hp (some h0) [34] 0 fun r_8 =>
  (zln (g.2.1 4) hp r_8 fun x_11 =>
  ((x_4 = x_11 →
  P_110) ∧
  (¬ x_4 = x_11 →
  (zgR hp (some h0) [34] 0 fun r_15 =>
  (zgI hp (some h0) [34] 1 fun x_19 =>
  (zaJ (g.2.1 4) hp r_15 fun a_20 n_21 f_22 => vp_in x_19 n_21 ∧ ∀ x_23 : Int64, x_23 = f_22 x_19.toNatClampNeg →
  (((lg_cmp x_23 (0 : Int64)) = 0 →
  P_110) ∧
  (¬ (lg_cmp x_23 (0 : Int64)) = 0 →
  False))))))))))) ∧
  (¬ (1 : Int32) = 0 →
  P_110)))) ∧
  (((1 : Int32) = 0 →
  (zgI hp (some h0) [34] 1 fun x_27 =>
  ((x_27 < 0 →
  False) ∧
  (¬ x_27 < 0 →
  (zgI hp (some h0) [34] 1 fun x_31 =>
  (zgR hp (some h0) [34] 0 fun r_35 =>
  (zln (g.2.1 4) hp r_35 fun x_38 =>
  ((x_31 ≤ x_38 →
  P_70) ∧
  (¬ x_31 ≤ x_38 →
  False))))))))) ∧
  (¬ (1 : Int32) = 0 →
  P_70)))) ∧
  (((1 : Int32) = 0 →
  (zgI hp (some h0) [34] 1 fun x_42 =>
  ((x_42 = 0 →
  P_37) ∧
  (¬ x_42 = 0 →
  (zgR hp (some h0) [34] 0 fun r_46 =>
  (zgI hp (some h0) [34] 1 fun x_50 =>
  (zaJ (g.2.1 4) hp r_46 fun a_51 n_52 f_53 => vp_in (x_50 - (1 : Int32)) n_52 ∧ ∀ x_54 : Int64, x_54 = f_53 (x_50 - (1 : Int32)).toNatClampNeg →
  (((lg_cmp x_54 (0 : Int64)) = 0 →
  False) ∧
  (¬ (lg_cmp x_54 (0 : Int64)) = 0 →
  P_37))))))))) ∧
  (¬ (1 : Int32) = 0 →
  P_37)))
set_option maxHeartbeats 40000000 in
theorem met_J0_checkInvariants {l : Launch} {g : zG} {d : Nat} {h0 : Nat} {hp : zHp} {nx : Nat} {Post : zHp → Nat → Prop} (hw : wp_J0_checkInvariants l g d h0 hp nx Post) : zMt l g yJ0_checkInvariants cJ0_checkInvariants 1 none (d + 1) 0 0 [.ref h0] hp nx (zQv g Post) := by
  refine z_start (by decide) (Nat.le_of_ble_eq_true rfl) ?_
  intro p e s m below meth c hk hr hin hH hz ls hl
  have hx := hk.1.1
  have hb := hk.1.2.1
  have hown := hk.1.2.2.2.1
  have hts := hk.1.2.2.2.2
  have hS : va_S (zAd g) s.heap s.heap [] := va_S.rf
  have hl : lv_has ls 1 [(0, va_rf (some h0))] := hl
  unfold wp_J0_checkInvariants at hw
  refine zw_gets hk hS 0 rfl q728 dJ0_checkInvariants_0 ?_
  obtain ⟨P_37, hP_37, hw⟩ := hw
  have hJ_37 : ∀  (H : Heap) (locs : List Loc) (ls : Array Slot), P_37  → lv_has ls 1 [(0, va_rf (some h0))] → zHd g hp H → H.size = nx → va_S (zAd g) s.heap H locs → W p l e (zrm (d + 1) 0 0) s m ([.ref h0] : List Value).toArray below meth c H locs 0 0 (MQ below (zQv g Post) ([.ref h0] : List Value).toArray s 0 0 (zAd g)) (F0 m 37 ls []) := by
    intro  H locs ls hw hl hH hz hS
    have hw := hP_37  hw
    refine zw_gets hk hS 0 rfl q728 dJ0_checkInvariants_37 ?_
    obtain ⟨P_70, hP_70, hw⟩ := hw
    have hJ_70 : ∀  (H : Heap) (locs : List Loc) (ls : Array Slot), P_70  → lv_has ls 1 [(0, va_rf (some h0))] → zHd g hp H → H.size = nx → va_S (zAd g) s.heap H locs → W p l e (zrm (d + 1) 0 0) s m ([.ref h0] : List Value).toArray below meth c H locs 0 0 (MQ below (zQv g Post) ([.ref h0] : List Value).toArray s 0 0 (zAd g)) (F0 m 70 ls []) := by
      intro  H locs ls hw hl hH hz hS
      have hw := hP_70  hw
      refine zw_gets hk hS 0 rfl q728 dJ0_checkInvariants_70 ?_
      obtain ⟨P_110, hP_110, hw⟩ := hw
      have hJ_110 : ∀  (H : Heap) (locs : List Loc) (ls : Array Slot), P_110  → lv_has ls 1 [(0, va_rf (some h0))] → zHd g hp H → H.size = nx → va_S (zAd g) s.heap H locs → W p l e (zrm (d + 1) 0 0) s m ([.ref h0] : List Value).toArray below meth c H locs 0 0 (MQ below (zQv g Post) ([.ref h0] : List Value).toArray s 0 0 (zAd g)) (F0 m 110 ls []) := by
        intro  H locs ls hw hl hH hz hS
        have hw := hP_110  hw
        exact zr_vret hk hr hH hz hS hw (Nat.le_of_ble_eq_true rfl) (Nat.le_of_ble_eq_true rfl) dJ0_checkInvariants_110
      refine lv_if_ne (tgt := 110) hx hb dJ0_checkInvariants_73 (by decide) (fun hc => ?_) (fun hc => ?_)
      · have hw := hw.2 hc
        exact hJ_110  _ _ _ hw hl hH hz hS
      · have hw := hw.1 hc
        refine zr_aload_n (r := some h0) hx hb dJ0_checkInvariants_76 rfl (lv_at hl 0 rfl) ?_
        obtain ⟨a_1, ci_2, fs_3, x_4, er, he, hc, hv, hw⟩ := zgI_e hw
        refine zw_get hk hH er he hv (fk_J0_7 hc) dJ0_checkInvariants_77 ?_
        refine zr_aload_n (r := some h0) hx hb dJ0_checkInvariants_80 rfl (lv_at hl 0 rfl) ?_
        obtain ⟨a_5, ci_6, fs_7, r_8, er, he, hc, hv, hw⟩ := zgR_e hw
        refine zw_get hk hH er he hv (fk_J0_11 hc) dJ0_checkInvariants_81 ?_
        obtain ⟨a_9, v_10, er, he, hw⟩ := zln_e hw
        refine zw_alen hk hH 4 er he rfl dJ0_checkInvariants_84 ?_
        generalize Int32.ofNat v_10.1 = x_11 at hw ⊢
        refine lv_icmp_eq (tgt := 110) hx hb dJ0_checkInvariants_85 (by decide) (fun hc => ?_) (fun hc => ?_)
        · have hw := hw.1 hc
          exact hJ_110  _ _ _ hw hl hH hz hS
        · have hw := hw.2 hc
          refine zr_aload_n (r := some h0) hx hb dJ0_checkInvariants_88 rfl (lv_at hl 0 rfl) ?_
          obtain ⟨a_12, ci_13, fs_14, r_15, er, he, hc, hv, hw⟩ := zgR_e hw
          refine zw_get hk hH er he hv (fk_J0_11 hc) dJ0_checkInvariants_89 ?_
          refine zr_aload_n (r := some h0) hx hb dJ0_checkInvariants_92 rfl (lv_at hl 0 rfl) ?_
          obtain ⟨a_16, ci_17, fs_18, x_19, er, he, hc, hv, hw⟩ := zgI_e hw
          refine zw_get hk hH er he hv (fk_J0_7 hc) dJ0_checkInvariants_93 ?_
          obtain ⟨a_20, n_21, f_22, er, he, hi, hw⟩ := zaJ_e hw
          have hw := hw _ rfl
          refine zw_lald hk hH er he hi dJ0_checkInvariants_96 ?_
          generalize f_22 x_19.toNatClampNeg = x_23 at hw ⊢
          refine lv_lconst (v := (0 : Int64)) hx hb dJ0_checkInvariants_97 (by decide) ?_
          refine W.lcmp hx hb dJ0_checkInvariants_98 ?_
          refine lv_if_eq (tgt := 110) hx hb dJ0_checkInvariants_99 (by decide) (fun hc => ?_) (fun hc => ?_)
          · have hw := hw.1 hc
            exact hJ_110  _ _ _ hw hl hH hz hS
          · have hw := hw.2 hc
            exact hw.elim
    refine lv_if_ne (tgt := 70) hx hb dJ0_checkInvariants_40 (by decide) (fun hc => ?_) (fun hc => ?_)
    · have hw := hw.2 hc
      exact hJ_70  _ _ _ hw hl hH hz hS
    · have hw := hw.1 hc
      refine zr_aload_n (r := some h0) hx hb dJ0_checkInvariants_43 rfl (lv_at hl 0 rfl) ?_
      obtain ⟨a_24, ci_25, fs_26, x_27, er, he, hc, hv, hw⟩ := zgI_e hw
      refine zw_get hk hH er he hv (fk_J0_7 hc) dJ0_checkInvariants_44 ?_
      refine lv_if_lt (tgt := 62) hx hb dJ0_checkInvariants_47 (by decide) (fun hc => ?_) (fun hc => ?_)
      · have hw := hw.1 hc
        exact hw.elim
      · have hw := hw.2 hc
        refine zr_aload_n (r := some h0) hx hb dJ0_checkInvariants_50 rfl (lv_at hl 0 rfl) ?_
        obtain ⟨a_28, ci_29, fs_30, x_31, er, he, hc, hv, hw⟩ := zgI_e hw
        refine zw_get hk hH er he hv (fk_J0_7 hc) dJ0_checkInvariants_51 ?_
        refine zr_aload_n (r := some h0) hx hb dJ0_checkInvariants_54 rfl (lv_at hl 0 rfl) ?_
        obtain ⟨a_32, ci_33, fs_34, r_35, er, he, hc, hv, hw⟩ := zgR_e hw
        refine zw_get hk hH er he hv (fk_J0_11 hc) dJ0_checkInvariants_55 ?_
        obtain ⟨a_36, v_37, er, he, hw⟩ := zln_e hw
        refine zw_alen hk hH 4 er he rfl dJ0_checkInvariants_58 ?_
        generalize Int32.ofNat v_37.1 = x_38 at hw ⊢
        refine lv_icmp_le (tgt := 70) hx hb dJ0_checkInvariants_59 (by decide) (fun hc => ?_) (fun hc => ?_)
        · have hw := hw.1 hc
          exact hJ_70  _ _ _ hw hl hH hz hS
        · have hw := hw.2 hc
          exact hw.elim
  refine lv_if_ne (tgt := 37) hx hb dJ0_checkInvariants_3 (by decide) (fun hc => ?_) (fun hc => ?_)
  · have hw := hw.2 hc
    exact hJ_37  _ _ _ hw hl hH hz hS
  · have hw := hw.1 hc
    refine zr_aload_n (r := some h0) hx hb dJ0_checkInvariants_6 rfl (lv_at hl 0 rfl) ?_
    obtain ⟨a_39, ci_40, fs_41, x_42, er, he, hc, hv, hw⟩ := zgI_e hw
    refine zw_get hk hH er he hv (fk_J0_7 hc) dJ0_checkInvariants_7 ?_
    refine lv_if_eq (tgt := 37) hx hb dJ0_checkInvariants_10 (by decide) (fun hc => ?_) (fun hc => ?_)
    · have hw := hw.1 hc
      exact hJ_37  _ _ _ hw hl hH hz hS
    · have hw := hw.2 hc
      refine zr_aload_n (r := some h0) hx hb dJ0_checkInvariants_13 rfl (lv_at hl 0 rfl) ?_
      obtain ⟨a_43, ci_44, fs_45, r_46, er, he, hc, hv, hw⟩ := zgR_e hw
      refine zw_get hk hH er he hv (fk_J0_11 hc) dJ0_checkInvariants_14 ?_
      refine zr_aload_n (r := some h0) hx hb dJ0_checkInvariants_17 rfl (lv_at hl 0 rfl) ?_
      obtain ⟨a_47, ci_48, fs_49, x_50, er, he, hc, hv, hw⟩ := zgI_e hw
      refine zw_get hk hH er he hv (fk_J0_7 hc) dJ0_checkInvariants_18 ?_
      refine lv_iconst (v := (1 : Int32)) hx hb dJ0_checkInvariants_21 (by decide) ?_
      refine lv_isub hx hb dJ0_checkInvariants_22 ?_
      obtain ⟨a_51, n_52, f_53, er, he, hi, hw⟩ := zaJ_e hw
      have hw := hw _ rfl
      refine zw_lald hk hH er he hi dJ0_checkInvariants_23 ?_
      generalize f_53 (x_50 - (1 : Int32)).toNatClampNeg = x_54 at hw ⊢
      refine lv_lconst (v := (0 : Int64)) hx hb dJ0_checkInvariants_24 (by decide) ?_
      refine W.lcmp hx hb dJ0_checkInvariants_25 ?_
      refine lv_if_ne (tgt := 37) hx hb dJ0_checkInvariants_26 (by decide) (fun hc => ?_) (fun hc => ?_)
      · have hw := hw.2 hc
        exact hJ_37  _ _ _ hw hl hH hz hS
      · have hw := hw.1 hc
        exact hw.elim
def wp_J0_clear (l : Launch) (g : zG) (d : Nat) (h0 : Nat) (hp : zHp) (nx : Nat) (Post : zHp → Nat → Prop) : Prop :=
  (∃ I_0 : Nat → zHp → Prop, (∃ n_24, I_0 n_24 hp) ∧ ∀ (n_2 : Nat) (hp_1 : zHp), I_0 n_2 hp_1 →
  (zgI hp_1 (some h0) [34] 1 fun x_6 =>
  ((x_6 ≤ 0 →
  (Post hp_1 nx)) ∧
  (¬ x_6 ≤ 0 →
  (zgR hp_1 (some h0) [34] 0 fun r_10 =>
  (zgI hp_1 (some h0) [34] 1 fun x_14 =>
  (zpt g hp_1 (some h0) [34] 1 (.int (x_14 - (1 : Int32))) fun hp_18 =>
  (zaJ (g.2.1 4) hp_18 r_10 fun a_19 n_20 f_21 => vp_in (x_14 - (1 : Int32)) n_20 ∧ zB g ≤ a_19 ∧ ∀ hp_22 : zHp, hp_22 = va_up hp_18 a_19 (some (.inl (g.2.1 4, n_20, .inr (.inl (va_up f_21 (x_14 - (1 : Int32)).toNatClampNeg (0 : Int64)))))) →
  (∃ k_23, k_23 < n_2 ∧ I_0 k_23 hp_22)))))))))
set_option maxHeartbeats 40000000 in
theorem met_J0_clear {l : Launch} {g : zG} {d : Nat} {h0 : Nat} {hp : zHp} {nx : Nat} {Post : zHp → Nat → Prop} (hw : wp_J0_clear l g d h0 hp nx Post) : zMt l g yJ0_clear cJ0_clear 1 none (d + 1) 0 0 [.ref h0] hp nx (zQv g Post) := by
  refine z_start (by decide) (Nat.le_of_ble_eq_true rfl) ?_
  intro p e s m below meth c hk hr hin hH hz ls hl
  have hx := hk.1.1
  have hb := hk.1.2.1
  have hown := hk.1.2.2.2.1
  have hts := hk.1.2.2.2.2
  have hS : va_S (zAd g) s.heap s.heap [] := va_S.rf
  have hl : lv_has ls 1 [(0, va_rf (some h0))] := hl
  unfold wp_J0_clear at hw
  obtain ⟨I_0, ⟨n_24, hI⟩, hB_0⟩ := hw
  have hL_0 : ∀ (n_2 : Nat) (hp_1 : zHp) (H : Heap) (locs : List Loc) (ls : Array Slot), I_0 n_2 hp_1 → lv_has ls 1 [(0, va_rf (some h0))] → zHd g hp_1 H → H.size = nx → va_S (zAd g) s.heap H locs → W p l e (zrm (d + 1) 0 0) s m ([.ref h0] : List Value).toArray below meth c H locs 0 0 (MQ below (zQv g Post) ([.ref h0] : List Value).toArray s 0 0 (zAd g)) (F0 m 0 ls []) := by
    intro n_2
    induction n_2 using Nat.strongRecOn with
    | _ n_2 ih_0 =>
      intro hp_1 H locs ls hw hl hH hz hS
      have hw := hB_0 n_2 hp_1 hw
      refine zr_aload_n (r := some h0) hx hb dJ0_clear_0 rfl (lv_at hl 0 rfl) ?_
      obtain ⟨a_3, ci_4, fs_5, x_6, er, he, hc, hv, hw⟩ := zgI_e hw
      refine zw_get hk hH er he hv (fk_J0_7 hc) dJ0_clear_1 ?_
      refine lv_if_le (tgt := 27) hx hb dJ0_clear_4 (by decide) (fun hc => ?_) (fun hc => ?_)
      · have hw := hw.1 hc
        exact zr_vret hk hr hH hz hS hw (Nat.le_of_ble_eq_true rfl) (Nat.le_of_ble_eq_true rfl) dJ0_clear_27
      · have hw := hw.2 hc
        refine zr_aload_n (r := some h0) hx hb dJ0_clear_7 rfl (lv_at hl 0 rfl) ?_
        obtain ⟨a_7, ci_8, fs_9, r_10, er, he, hc, hv, hw⟩ := zgR_e hw
        refine zw_get hk hH er he hv (fk_J0_11 hc) dJ0_clear_8 ?_
        refine zr_aload_n (r := some h0) hx hb dJ0_clear_11 rfl (lv_at hl 0 rfl) ?_
        refine lv_dup hx hb dJ0_clear_12 (z_cat _) ?_
        obtain ⟨a_11, ci_12, fs_13, x_14, er, he, hc, hv, hw⟩ := zgI_e hw
        refine zw_get hk hH er he hv (fk_J0_7 hc) dJ0_clear_13 ?_
        refine lv_iconst (v := (1 : Int32)) hx hb dJ0_clear_16 (by decide) ?_
        refine lv_isub hx hb dJ0_clear_17 ?_
        refine lv_dup_x1 hx hb dJ0_clear_18 rfl (z_cat _) ?_
        obtain ⟨a_15, ci_16, fs_17, hp_18, er, he, hc, hA, hkl, eh, hw⟩ := zpt_e hw
        refine zw_put hk hH hz hS er he hA hkl eh (fp_J0_7 hc) rfl rfl dJ0_clear_19 (fun H locs hH hz hS => ?_)
        refine lv_lconst (v := (0 : Int64)) hx hb dJ0_clear_22 (by decide) ?_
        obtain ⟨a_19, n_20, f_21, er, he, hi, hA, hw⟩ := zaJ_e hw
        obtain ⟨hp_22, eh⟩ : ∃ y : zHp, y = va_up hp_18 a_19 (some (.inl (g.2.1 4, n_20, .inr (.inl (va_up f_21 (x_14 - (1 : Int32)).toNatClampNeg (0 : Int64)))))) := ⟨_, rfl⟩
        have hw := hw hp_22 eh
        refine zw_last hk hH hz hS er he hi hA eh dJ0_clear_23 (fun H locs hH hz hS => ?_)
        refine lv_goto (tgt := 0) hx hb dJ0_clear_24 (by decide) ?_
        obtain ⟨k_23, hlt, hw⟩ := hw
        exact ih_0 k_23 hlt hp_22 _ _ _ hw hl hH hz hS
  exact hL_0 n_24 hp _ _ _ hI hl hH hz hS
def wp_J0_set (l : Launch) (g : zG) (d : Nat) (mc ms : Nat) (h0 : Nat) (x1 : Int32) (hp : zHp) (nx : Nat) (Post : zHp → Nat → Prop) : Prop :=
  ((0 ≤ x1 →
  (0 ≤ mc ∧ 0 ≤ ms ∧ zMt l g yJ0_wordIndex cJ0_wordIndex 1 (some .int) d 0 0 [.int x1] hp nx (zQi g fun x_3 hp_1 nx_2 =>
  (∃ c_4 s_5 : Nat, 0 + c_4 ≤ mc ∧ 0 + s_5 ≤ ms ∧ zo hp_1 (some h0) [34] fun a_25 ci_26 fs_27 => zMt l g yJ0_expandTo cJ0_expandTo 3 none d c_4 s_5 (.ref a_25 :: [.int x_3]) hp_1 nx_2 (zQv g fun hp_6 nx_7 =>
  (zgR hp_6 (some h0) [34] 0 fun r_11 =>
  (zaJ (g.2.1 4) hp_6 r_11 fun a_12 n_13 f_14 => vp_in x_3 n_13 ∧ ∀ x_15 : Int64, x_15 = f_14 x_3.toNatClampNeg →
  (zaJ (g.2.1 4) hp_6 r_11 fun a_16 n_17 f_18 => vp_in x_3 n_17 ∧ zB g ≤ a_16 ∧ ∀ hp_19 : zHp, hp_19 = va_up hp_6 a_16 (some (.inl (g.2.1 4, n_17, .inr (.inl (va_up f_18 x_3.toNatClampNeg (x_15 ||| ((1 : Int64) <<< (x1.toInt64 &&& 63)))))))) →
  ((0 + c_4) ≤ mc ∧ (0 + s_5) ≤ ms ∧ zo hp_19 (some h0) [34] fun a_22 ci_23 fs_24 => zMt l g yJ0_checkInvariants cJ0_checkInvariants 1 none d 0 0 (.ref a_22 :: []) hp_19 nx_7 (zQv g fun hp_20 nx_21 =>
  ((0 + c_4) ≤ mc ∧ (0 + s_5) ≤ ms ∧ Post hp_20 nx_21))))))))))) ∧
  (¬ 0 ≤ x1 →
  False))
set_option maxHeartbeats 40000000 in
theorem met_J0_set {l : Launch} {g : zG} {d : Nat} {mc ms : Nat} {h0 : Nat} {x1 : Int32} {hp : zHp} {nx : Nat} {Post : zHp → Nat → Prop} (hw : wp_J0_set l g d mc ms h0 x1 hp nx Post) : zMt l g yJ0_set cJ0_set 3 none (d + 1) mc ms [.ref h0, .int x1] hp nx (zQv g Post) := by
  refine z_start (by decide) (Nat.le_of_ble_eq_true rfl) ?_
  intro p e s m below meth c hk hr hin hH hz ls hl
  have hx := hk.1.1
  have hb := hk.1.2.1
  have hown := hk.1.2.2.2.1
  have hts := hk.1.2.2.2.2
  have hS : va_S (zAd g) s.heap s.heap [] := va_S.rf
  have hl : lv_has ls 3 [(0, va_rf (some h0)), (1, .int x1)] := hl
  unfold wp_J0_set at hw
  refine lv_iload_n hx hb dJ0_set_0 rfl (lv_at hl 1 rfl) ?_
  refine lv_if_ge (tgt := 31) hx hb dJ0_set_1 (by decide) (fun hc => ?_) (fun hc => ?_)
  · have hw := hw.1 hc
    refine lv_iload_n hx hb dJ0_set_31 rfl (lv_at hl 1 rfl) ?_
    obtain ⟨hcl, hsl, hw⟩ := hw
    refine zr_calli (zr_runS (As := [.int x1]) hk hH hz hS hl.1 hw (va_cwS 1 hts (lw_S q610 q611 q133 q612) rfl rfl rfl (by decide +kernel) (z_room (Nat.le_of_ble_eq_true rfl))) rfl rfl (Nat.le_of_ble_eq_true rfl) dJ0_set_32 ⟨hcl, hsl⟩) hS (fun x_3 hp_1 nx_2 hw H locs hH hz hS => ?_)
    refine lv_istore_n (i := 2) (lv' := [(2, .int x_3), (0, va_rf (some h0)), (1, .int x1)]) hx hb dJ0_set_35 rfl hl (by decide) (by first | rfl | simp [List.filter_cons, z_cat, z_catI, z_catJ, z_catF, z_catD]) (fun ls hl => ?_)
    refine zr_aload_n (r := some h0) hx hb dJ0_set_36 rfl (lv_at hl 1 rfl) ?_
    refine lv_iload_n hx hb dJ0_set_37 rfl (lv_at hl 0 rfl) ?_
    obtain ⟨c_4, s_5, hcl, hsl, hw⟩ := hw
    obtain ⟨a_25, ci_26, fs_27, er, he, hc, hw⟩ := zo_e hw
    obtain rfl := List.mem_singleton.mp hc
    refine zr_callv (zw_runV (As := [.int x_3]) hk hH hz hS hl.1 er hw (cwV 1 hts (lw_V q927 q929 qs11 q133 q930) rfl rfl rfl (by decide +kernel) (z_room (Nat.le_of_ble_eq_true rfl))) he rfl rfl rfl (Nat.le_of_ble_eq_true rfl) dJ0_set_38 ⟨hcl, hsl⟩) hS (fun hp_6 nx_7 hw H locs hH hz hS => ?_)
    refine zr_aload_n (r := some h0) hx hb dJ0_set_41 rfl (lv_at hl 1 rfl) ?_
    obtain ⟨a_8, ci_9, fs_10, r_11, er, he, hc, hv, hw⟩ := zgR_e hw
    refine zw_get hk hH er he hv (fk_J0_11 hc) dJ0_set_42 ?_
    refine lv_iload_n hx hb dJ0_set_45 rfl (lv_at hl 0 rfl) ?_
    refine lv_dup2_11 hx hb dJ0_set_46 rfl (z_cat _) ?_
    obtain ⟨a_12, n_13, f_14, er, he, hi, hw⟩ := zaJ_e hw
    have hw := hw _ rfl
    refine zw_lald hk hH er he hi dJ0_set_47 ?_
    generalize f_14 x_3.toNatClampNeg = x_15 at hw ⊢
    refine lv_lconst (v := (1 : Int64)) hx hb dJ0_set_48 (by decide) ?_
    refine lv_iload_n hx hb dJ0_set_49 rfl (lv_at hl 2 rfl) ?_
    refine lv_lshl hx hb dJ0_set_50 rfl ?_
    refine lv_lor hx hb dJ0_set_51 ?_
    obtain ⟨a_16, n_17, f_18, er, he, hi, hA, hw⟩ := zaJ_e hw
    obtain ⟨hp_19, eh⟩ : ∃ y : zHp, y = va_up hp_6 a_16 (some (.inl (g.2.1 4, n_17, .inr (.inl (va_up f_18 x_3.toNatClampNeg (x_15 ||| ((1 : Int64) <<< (x1.toInt64 &&& 63)))))))) := ⟨_, rfl⟩
    have hw := hw hp_19 eh
    refine zw_last hk hH hz hS er he hi hA eh dJ0_set_52 (fun H locs hH hz hS => ?_)
    refine zr_aload_n (r := some h0) hx hb dJ0_set_53 rfl (lv_at hl 1 rfl) ?_
    obtain ⟨hcl, hsl, hw⟩ := hw
    obtain ⟨a_22, ci_23, fs_24, er, he, hc, hw⟩ := zo_e hw
    obtain rfl := List.mem_singleton.mp hc
    refine zr_callv (zw_runV (As := []) hk hH hz hS hl.1 er hw (cwV 0 hts (lw_V q724 q726 qs6 q133 q727) rfl rfl rfl (by decide +kernel) (z_room (Nat.le_of_ble_eq_true rfl))) he rfl rfl rfl (Nat.le_of_ble_eq_true rfl) dJ0_set_54 ⟨hcl, hsl⟩) hS (fun hp_20 nx_21 hw H locs hH hz hS => ?_)
    obtain ⟨hkc, hks, hw⟩ := hw
    exact zr_vret hk hr hH hz hS hw hkc hks dJ0_set_57
  · have hw := hw.2 hc
    exact hw.elim
def wp_J0_expandTo (l : Launch) (g : zG) (d : Nat) (mc ms : Nat) (h0 : Nat) (x1 : Int32) (hp : zHp) (nx : Nat) (Post : zHp → Nat → Prop) : Prop :=
  (∀ x_1 : Int32, x_1 = x1 + (1 : Int32) →
  (zgI hp (some h0) [34] 1 fun x_5 =>
  (∃ P_22 : Int32 → zHp → Nat → Nat → Nat → Prop, (∀ (x_6 : Int32) (hp_7 : zHp) (nx_8 : Nat) (kc_9 : Nat) (ks_10 : Nat), P_22 x_6 hp_7 nx_8 kc_9 ks_10 →
  (kc_9 ≤ mc ∧ ks_10 ≤ ms ∧ Post hp_7 nx_8)) ∧
  ((x_1 ≤ x_5 →
  P_22 x_1 hp nx 0 0) ∧
  (¬ x_1 ≤ x_5 →
  (∃ c_11 s_12 : Nat, 0 + c_11 ≤ mc ∧ 0 + s_12 ≤ ms ∧ zo hp (some h0) [34] fun a_19 ci_20 fs_21 => zMt l g yJ0_ensureCapacity cJ0_ensureCapacity 3 none d c_11 s_12 (.ref a_19 :: [.int x_1]) hp nx (zQv g fun hp_13 nx_14 =>
  (zpt g hp_13 (some h0) [34] 1 (.int x_1) fun hp_18 =>
  P_22 x_1 hp_18 nx_14 (0 + c_11) (0 + s_12)))))))))
set_option maxHeartbeats 40000000 in
theorem met_J0_expandTo {l : Launch} {g : zG} {d : Nat} {mc ms : Nat} {h0 : Nat} {x1 : Int32} {hp : zHp} {nx : Nat} {Post : zHp → Nat → Prop} (hw : wp_J0_expandTo l g d mc ms h0 x1 hp nx Post) : zMt l g yJ0_expandTo cJ0_expandTo 3 none (d + 1) mc ms [.ref h0, .int x1] hp nx (zQv g Post) := by
  refine z_start (by decide) (Nat.le_of_ble_eq_true rfl) ?_
  intro p e s m below meth c hk hr hin hH hz ls hl
  have hx := hk.1.1
  have hb := hk.1.2.1
  have hown := hk.1.2.2.2.1
  have hts := hk.1.2.2.2.2
  have hS : va_S (zAd g) s.heap s.heap [] := va_S.rf
  have hl : lv_has ls 3 [(0, va_rf (some h0)), (1, .int x1)] := hl
  unfold wp_J0_expandTo at hw
  refine lv_iload_n hx hb dJ0_expandTo_0 rfl (lv_at hl 1 rfl) ?_
  refine lv_iconst (v := (1 : Int32)) hx hb dJ0_expandTo_1 (by decide) ?_
  refine lv_iadd hx hb dJ0_expandTo_2 ?_
  refine lv_topi (fun x_1 ex_1 => ?_)
  have hw := hw x_1 ex_1
  refine lv_istore_n (i := 2) (lv' := [(2, .int x_1), (0, va_rf (some h0)), (1, .int x1)]) hx hb dJ0_expandTo_3 rfl hl (by decide) (by first | rfl | simp [List.filter_cons, z_cat, z_catI, z_catJ, z_catF, z_catD]) (fun ls hl => ?_)
  refine zr_aload_n (r := some h0) hx hb dJ0_expandTo_4 rfl (lv_at hl 1 rfl) ?_
  obtain ⟨a_2, ci_3, fs_4, x_5, er, he, hc, hv, hw⟩ := zgI_e hw
  refine zw_get hk hH er he hv (fk_J0_7 hc) dJ0_expandTo_5 ?_
  refine lv_iload_n hx hb dJ0_expandTo_8 rfl (lv_at hl 0 rfl) ?_
  obtain ⟨P_22, hP_22, hw⟩ := hw
  have hJ_22 : ∀ (x_6 : Int32) (hp_7 : zHp) (nx_8 : Nat) (kc_9 : Nat) (ks_10 : Nat) (H : Heap) (locs : List Loc) (ls : Array Slot), P_22 x_6 hp_7 nx_8 kc_9 ks_10 → lv_has ls 3 [(0, va_rf (some h0)), (1, .int x1), (2, .int x_6)] → zHd g hp_7 H → H.size = nx_8 → va_S (zAd g) s.heap H locs → W p l e (zrm (d + 1) mc ms) s m ([.ref h0, .int x1] : List Value).toArray below meth c H locs kc_9 ks_10 (MQ below (zQv g Post) ([.ref h0, .int x1] : List Value).toArray s mc ms (zAd g)) (F0 m 22 ls []) := by
    intro x_6 hp_7 nx_8 kc_9 ks_10 H locs ls hw hl hH hz hS
    have hw := hP_22 x_6 hp_7 nx_8 kc_9 ks_10 hw
    obtain ⟨hkc, hks, hw⟩ := hw
    exact zr_vret hk hr hH hz hS hw hkc hks dJ0_expandTo_22
  refine lv_icmp_ge (tgt := 22) hx hb dJ0_expandTo_9 (by decide) (fun hc => ?_) (fun hc => ?_)
  · have hw := hw.1 hc
    exact hJ_22 x_1 hp nx 0 0 _ _ _ hw (lv_sub hl [1, 2, 0] rfl) hH hz hS
  · have hw := hw.2 hc
    refine zr_aload_n (r := some h0) hx hb dJ0_expandTo_12 rfl (lv_at hl 1 rfl) ?_
    refine lv_iload_n hx hb dJ0_expandTo_13 rfl (lv_at hl 0 rfl) ?_
    obtain ⟨c_11, s_12, hcl, hsl, hw⟩ := hw
    obtain ⟨a_19, ci_20, fs_21, er, he, hc, hw⟩ := zo_e hw
    obtain rfl := List.mem_singleton.mp hc
    refine zr_callv (zw_runV (As := [.int x_1]) hk hH hz hS hl.1 er hw (cwV 1 hts (lw_V q931 q933 qs12 q133 q934) rfl rfl rfl (by decide +kernel) (z_room (Nat.le_of_ble_eq_true rfl))) he rfl rfl rfl (Nat.le_of_ble_eq_true rfl) dJ0_expandTo_14 ⟨hcl, hsl⟩) hS (fun hp_13 nx_14 hw H locs hH hz hS => ?_)
    refine zr_aload_n (r := some h0) hx hb dJ0_expandTo_17 rfl (lv_at hl 1 rfl) ?_
    refine lv_iload_n hx hb dJ0_expandTo_18 rfl (lv_at hl 0 rfl) ?_
    obtain ⟨a_15, ci_16, fs_17, hp_18, er, he, hc, hA, hkl, eh, hw⟩ := zpt_e hw
    refine zw_put hk hH hz hS er he hA hkl eh (fp_J0_7 hc) rfl rfl dJ0_expandTo_19 (fun H locs hH hz hS => ?_)
    exact hJ_22 x_1 hp_18 nx_14 (0 + c_11) (0 + s_12) _ _ _ hw (lv_sub hl [1, 2, 0] rfl) hH hz hS
def wp_J0_ensureCapacity (l : Launch) (g : zG) (d : Nat) (mc ms : Nat) (h0 : Nat) (x1 : Int32) (hp : zHp) (nx : Nat) (Post : zHp → Nat → Prop) : Prop :=
  (zgR hp (some h0) [34] 0 fun r_4 =>
  (zln (g.2.1 4) hp r_4 fun x_7 =>
  (∃ P_38 : zHp → Nat → Nat → Nat → Prop, (∀ (hp_8 : zHp) (nx_9 : Nat) (kc_10 : Nat) (ks_11 : Nat), P_38 hp_8 nx_9 kc_10 ks_11 →
  (kc_10 ≤ mc ∧ ks_11 ≤ ms ∧ Post hp_8 nx_9)) ∧
  ((x1 ≤ x_7 →
  P_38 hp nx 0 0) ∧
  (¬ x1 ≤ x_7 →
  (zgR hp (some h0) [34] 0 fun r_15 =>
  (zln (g.2.1 4) hp r_15 fun x_18 =>
  (0 ≤ mc ∧ 0 ≤ ms ∧ zMt l g yJ10_max cJ10_max 2 (some .int) d 0 0 [.int ((2 : Int32) * x_18), .int x1] hp nx (zQi g fun x_21 hp_19 nx_20 =>
  (zgR hp_19 (some h0) [34] 0 fun r_25 =>
  (∃ c_26 s_27 : Nat, 0 + c_26 ≤ mc ∧ 0 + s_27 ≤ ms ∧ zMt l g yJ11_copyOf_4 cJ11_copyOf_4 3 (some (.array .long)) d c_26 s_27 [va_rf r_25, .int x_21] hp_19 nx_20 (zQq g fun r_30 hp_28 nx_29 =>
  (zpt g hp_28 (some h0) [34] 0 (va_rf r_30) fun hp_34 =>
  (zpt g hp_34 (some h0) [34] 2 (.int (0 : Int32)) fun hp_38 =>
  P_38 hp_38 nx_29 (0 + c_26) (0 + s_27)))))))))))))))
set_option maxHeartbeats 40000000 in
theorem met_J0_ensureCapacity {l : Launch} {g : zG} {d : Nat} {mc ms : Nat} {h0 : Nat} {x1 : Int32} {hp : zHp} {nx : Nat} {Post : zHp → Nat → Prop} (hw : wp_J0_ensureCapacity l g d mc ms h0 x1 hp nx Post) : zMt l g yJ0_ensureCapacity cJ0_ensureCapacity 3 none (d + 1) mc ms [.ref h0, .int x1] hp nx (zQv g Post) := by
  refine z_start (by decide) (Nat.le_of_ble_eq_true rfl) ?_
  intro p e s m below meth c hk hr hin hH hz ls hl
  have hx := hk.1.1
  have hb := hk.1.2.1
  have hown := hk.1.2.2.2.1
  have hts := hk.1.2.2.2.2
  have hS : va_S (zAd g) s.heap s.heap [] := va_S.rf
  have hl : lv_has ls 3 [(0, va_rf (some h0)), (1, .int x1)] := hl
  unfold wp_J0_ensureCapacity at hw
  refine zr_aload_n (r := some h0) hx hb dJ0_ensureCapacity_0 rfl (lv_at hl 0 rfl) ?_
  obtain ⟨a_1, ci_2, fs_3, r_4, er, he, hc, hv, hw⟩ := zgR_e hw
  refine zw_get hk hH er he hv (fk_J0_11 hc) dJ0_ensureCapacity_1 ?_
  obtain ⟨a_5, v_6, er, he, hw⟩ := zln_e hw
  refine zw_alen hk hH 4 er he rfl dJ0_ensureCapacity_4 ?_
  generalize Int32.ofNat v_6.1 = x_7 at hw ⊢
  refine lv_iload_n hx hb dJ0_ensureCapacity_5 rfl (lv_at hl 1 rfl) ?_
  obtain ⟨P_38, hP_38, hw⟩ := hw
  have hJ_38 : ∀ (hp_8 : zHp) (nx_9 : Nat) (kc_10 : Nat) (ks_11 : Nat) (H : Heap) (locs : List Loc) (ls : Array Slot), P_38 hp_8 nx_9 kc_10 ks_11 → lv_has ls 3 [(0, va_rf (some h0)), (1, .int x1)] → zHd g hp_8 H → H.size = nx_9 → va_S (zAd g) s.heap H locs → W p l e (zrm (d + 1) mc ms) s m ([.ref h0, .int x1] : List Value).toArray below meth c H locs kc_10 ks_11 (MQ below (zQv g Post) ([.ref h0, .int x1] : List Value).toArray s mc ms (zAd g)) (F0 m 38 ls []) := by
    intro hp_8 nx_9 kc_10 ks_11 H locs ls hw hl hH hz hS
    have hw := hP_38 hp_8 nx_9 kc_10 ks_11 hw
    obtain ⟨hkc, hks, hw⟩ := hw
    exact zr_vret hk hr hH hz hS hw hkc hks dJ0_ensureCapacity_38
  refine lv_icmp_ge (tgt := 38) hx hb dJ0_ensureCapacity_6 (by decide) (fun hc => ?_) (fun hc => ?_)
  · have hw := hw.1 hc
    exact hJ_38 hp nx 0 0 _ _ _ hw hl hH hz hS
  · have hw := hw.2 hc
    refine lv_iconst (v := (2 : Int32)) hx hb dJ0_ensureCapacity_9 (by decide) ?_
    refine zr_aload_n (r := some h0) hx hb dJ0_ensureCapacity_10 rfl (lv_at hl 0 rfl) ?_
    obtain ⟨a_12, ci_13, fs_14, r_15, er, he, hc, hv, hw⟩ := zgR_e hw
    refine zw_get hk hH er he hv (fk_J0_11 hc) dJ0_ensureCapacity_11 ?_
    obtain ⟨a_16, v_17, er, he, hw⟩ := zln_e hw
    refine zw_alen hk hH 4 er he rfl dJ0_ensureCapacity_14 ?_
    generalize Int32.ofNat v_17.1 = x_18 at hw ⊢
    refine lv_imul hx hb dJ0_ensureCapacity_15 ?_
    refine lv_iload_n hx hb dJ0_ensureCapacity_16 rfl (lv_at hl 1 rfl) ?_
    obtain ⟨hcl, hsl, hw⟩ := hw
    refine zr_calli (zr_runS (As := [.int ((2 : Int32) * x_18), .int x1]) hk hH hz hS hl.1 hw (va_cwS 2 hts (lw_S q935 q410 q143 q411) rfl rfl rfl (by decide +kernel) (z_room (Nat.le_of_ble_eq_true rfl))) rfl rfl (Nat.le_of_ble_eq_true rfl) dJ0_ensureCapacity_17 ⟨hcl, hsl⟩) hS (fun x_21 hp_19 nx_20 hw H locs hH hz hS => ?_)
    refine lv_istore_n (i := 2) (lv' := [(2, .int x_21), (0, va_rf (some h0)), (1, .int x1)]) hx hb dJ0_ensureCapacity_20 rfl hl (by decide) (by first | rfl | simp [List.filter_cons, z_cat, z_catI, z_catJ, z_catF, z_catD]) (fun ls hl => ?_)
    refine zr_aload_n (r := some h0) hx hb dJ0_ensureCapacity_21 rfl (lv_at hl 1 rfl) ?_
    refine zr_aload_n (r := some h0) hx hb dJ0_ensureCapacity_22 rfl (lv_at hl 1 rfl) ?_
    obtain ⟨a_22, ci_23, fs_24, r_25, er, he, hc, hv, hw⟩ := zgR_e hw
    refine zw_get hk hH er he hv (fk_J0_11 hc) dJ0_ensureCapacity_23 ?_
    refine lv_iload_n hx hb dJ0_ensureCapacity_26 rfl (lv_at hl 0 rfl) ?_
    obtain ⟨c_26, s_27, hcl, hsl, hw⟩ := hw
    refine zr_callq (zr_runS (As := [va_rf r_25, .int x_21]) hk hH hz hS hl.1 hw (va_cwS 2 hts (lw_S q936 q937 q144 q938) rfl rfl rfl (by decide +kernel) (z_room (Nat.le_of_ble_eq_true rfl))) rfl rfl (by simp only [List.map_cons, List.map_nil, z_cat]; exact Nat.le_of_ble_eq_true rfl) dJ0_ensureCapacity_27 ⟨hcl, hsl⟩) hS (fun r_30 hp_28 nx_29 hw H locs hH hz hS => ?_)
    obtain ⟨a_31, ci_32, fs_33, hp_34, er, he, hc, hA, hkl, eh, hw⟩ := zpt_e hw
    refine zw_put hk hH hz hS er he hA hkl eh (fp_J0_11 hc) (z_narA _ _) (z_fitA _ _) dJ0_ensureCapacity_30 (fun H locs hH hz hS => ?_)
    refine zr_aload_n (r := some h0) hx hb dJ0_ensureCapacity_33 rfl (lv_at hl 1 rfl) ?_
    refine lv_iconst (v := (0 : Int32)) hx hb dJ0_ensureCapacity_34 (by decide) ?_
    obtain ⟨a_35, ci_36, fs_37, hp_38, er, he, hc, hA, hkl, eh, hw⟩ := zpt_e hw
    refine zw_put hk hH hz hS er he hA hkl eh (fp_J0_24 hc) (z_nb (Or.inl rfl)) (z_fb (Or.inl rfl)) dJ0_ensureCapacity_35 (fun H locs hH hz hS => ?_)
    exact hJ_38 hp_38 nx_29 (0 + c_26) (0 + s_27) _ _ _ hw (lv_sub hl [1, 2] rfl) hH hz hS
def wp_J0_nextSetBit (l : Launch) (g : zG) (d : Nat) (h0 : Nat) (x1 : Int32) (hp : zHp) (nx : Nat) (Post : Int32 → zHp → Nat → Prop) : Prop :=
  ((0 ≤ x1 →
  (zo hp (some h0) [34] fun a_42 ci_43 fs_44 => zMt l g yJ0_checkInvariants cJ0_checkInvariants 1 none d 0 0 (.ref a_42 :: []) hp nx (zQv g fun hp_1 nx_2 =>
  (zMt l g yJ0_wordIndex cJ0_wordIndex 1 (some .int) d 0 0 [.int x1] hp_1 nx_2 (zQi g fun x_5 hp_3 nx_4 =>
  (zgI hp_3 (some h0) [34] 1 fun x_9 =>
  ((x_5 < x_9 →
  (zgR hp_3 (some h0) [34] 0 fun r_13 =>
  (zaJ (g.2.1 4) hp_3 r_13 fun a_14 n_15 f_16 => vp_in x_5 n_15 ∧ ∀ x_17 : Int64, x_17 = f_16 x_5.toNatClampNeg →
  (∀ x_18 : Int64, x_18 = x_17 &&& ((-1 : Int64) <<< (x1.toInt64 &&& 63)) →
  (∃ I_63 : Nat → Int32 → Int64 → zHp → Nat → Prop, (∃ n_41, I_63 n_41 x_5 x_18 hp_3 nx_4) ∧ ∀ (n_23 : Nat) (x_19 : Int32) (x_20 : Int64) (hp_21 : zHp) (nx_22 : Nat), I_63 n_23 x_19 x_20 hp_21 nx_22 →
  (((lg_cmp x_20 (0 : Int64)) = 0 →
  (∀ x_24 : Int32, x_24 = x_19 + (1 : Int32) →
  (zgI hp_21 (some h0) [34] 1 fun x_28 =>
  ((x_24 = x_28 →
  (Post (-1 : Int32) hp_21 nx_22)) ∧
  (¬ x_24 = x_28 →
  (zgR hp_21 (some h0) [34] 0 fun r_32 =>
  (zaJ (g.2.1 4) hp_21 r_32 fun a_33 n_34 f_35 => vp_in x_24 n_34 ∧ ∀ x_36 : Int64, x_36 = f_35 x_24.toNatClampNeg →
  (∃ k_37, k_37 < n_23 ∧ I_63 k_37 x_24 x_36 hp_21 nx_22)))))))) ∧
  (¬ (lg_cmp x_20 (0 : Int64)) = 0 →
  (zMt l g yJ19_numberOfTrailingZeros cJ19_numberOfTrailingZeros 3 (some .int) d 0 0 [.long x_20] hp_21 nx_22 (zQi g fun x_40 hp_38 nx_39 =>
  (Post ((x_19 * (64 : Int32)) + x_40) hp_38 nx_39)))))))))) ∧
  (¬ x_5 < x_9 →
  (Post (-1 : Int32) hp_3 nx_4))))))))) ∧
  (¬ 0 ≤ x1 →
  False))
set_option maxHeartbeats 40000000 in
theorem met_J0_nextSetBit {l : Launch} {g : zG} {d : Nat} {h0 : Nat} {x1 : Int32} {hp : zHp} {nx : Nat} {Post : Int32 → zHp → Nat → Prop} (hw : wp_J0_nextSetBit l g d h0 x1 hp nx Post) : zMt l g yJ0_nextSetBit cJ0_nextSetBit 5 (some .int) (d + 1) 0 0 [.ref h0, .int x1] hp nx (zQi g Post) := by
  refine z_start (by decide) (Nat.le_of_ble_eq_true rfl) ?_
  intro p e s m below meth c hk hr hin hH hz ls hl
  have hx := hk.1.1
  have hb := hk.1.2.1
  have hown := hk.1.2.2.2.1
  have hts := hk.1.2.2.2.2
  have hS : va_S (zAd g) s.heap s.heap [] := va_S.rf
  have hl : lv_has ls 5 [(0, va_rf (some h0)), (1, .int x1)] := hl
  unfold wp_J0_nextSetBit at hw
  refine lv_iload_n hx hb dJ0_nextSetBit_0 rfl (lv_at hl 1 rfl) ?_
  refine lv_if_ge (tgt := 31) hx hb dJ0_nextSetBit_1 (by decide) (fun hc => ?_) (fun hc => ?_)
  · have hw := hw.1 hc
    refine zr_aload_n (r := some h0) hx hb dJ0_nextSetBit_31 rfl (lv_at hl 0 rfl) ?_
    obtain ⟨a_42, ci_43, fs_44, er, he, hc, hw⟩ := zo_e hw
    obtain rfl := List.mem_singleton.mp hc
    refine zr_callv (zw_runV (As := []) hk hH hz hS hl.1 er hw (cwV 0 hts (lw_V q724 q726 qs6 q133 q727) rfl rfl rfl (by decide +kernel) (z_room (Nat.le_of_ble_eq_true rfl))) he rfl rfl rfl (Nat.le_of_ble_eq_true rfl) dJ0_nextSetBit_32 ⟨Nat.le_of_ble_eq_true rfl, Nat.le_of_ble_eq_true rfl⟩) hS (fun hp_1 nx_2 hw H locs hH hz hS => ?_)
    refine lv_iload_n hx hb dJ0_nextSetBit_35 rfl (lv_at hl 1 rfl) ?_
    refine zr_calli (zr_runS (As := [.int x1]) hk hH hz hS hl.1 hw (va_cwS 1 hts (lw_S q610 q611 q133 q612) rfl rfl rfl (by decide +kernel) (z_room (Nat.le_of_ble_eq_true rfl))) rfl rfl (Nat.le_of_ble_eq_true rfl) dJ0_nextSetBit_36 ⟨Nat.le_of_ble_eq_true rfl, Nat.le_of_ble_eq_true rfl⟩) hS (fun x_5 hp_3 nx_4 hw H locs hH hz hS => ?_)
    refine lv_istore_n (i := 2) (lv' := [(2, .int x_5), (0, va_rf (some h0)), (1, .int x1)]) hx hb dJ0_nextSetBit_39 rfl hl (by decide) (by first | rfl | simp [List.filter_cons, z_cat, z_catI, z_catJ, z_catF, z_catD]) (fun ls hl => ?_)
    refine lv_iload_n hx hb dJ0_nextSetBit_40 rfl (lv_at hl 0 rfl) ?_
    refine zr_aload_n (r := some h0) hx hb dJ0_nextSetBit_41 rfl (lv_at hl 1 rfl) ?_
    obtain ⟨a_6, ci_7, fs_8, x_9, er, he, hc, hv, hw⟩ := zgI_e hw
    refine zw_get hk hH er he hv (fk_J0_7 hc) dJ0_nextSetBit_42 ?_
    refine lv_icmp_lt (tgt := 50) hx hb dJ0_nextSetBit_45 (by decide) (fun hc => ?_) (fun hc => ?_)
    · have hw := hw.1 hc
      refine zr_aload_n (r := some h0) hx hb dJ0_nextSetBit_50 rfl (lv_at hl 1 rfl) ?_
      obtain ⟨a_10, ci_11, fs_12, r_13, er, he, hc, hv, hw⟩ := zgR_e hw
      refine zw_get hk hH er he hv (fk_J0_11 hc) dJ0_nextSetBit_51 ?_
      refine lv_iload_n hx hb dJ0_nextSetBit_54 rfl (lv_at hl 0 rfl) ?_
      obtain ⟨a_14, n_15, f_16, er, he, hi, hw⟩ := zaJ_e hw
      have hw := hw _ rfl
      refine zw_lald hk hH er he hi dJ0_nextSetBit_55 ?_
      generalize f_16 x_5.toNatClampNeg = x_17 at hw ⊢
      refine lv_ldc2 hx hb hown (hts _ q949) dJ0_nextSetBit_56 ?_
      refine lv_iload_n hx hb dJ0_nextSetBit_59 rfl (lv_at hl 2 rfl) ?_
      refine lv_lshl hx hb dJ0_nextSetBit_60 rfl ?_
      refine lv_land hx hb dJ0_nextSetBit_61 ?_
      refine lv_topl (fun x_18 ex_18 => ?_)
      have hw := hw x_18 ex_18
      refine lv_lstore_n (i := 3) (lv' := [(3, .long x_18), (2, .int x_5), (0, va_rf (some h0)), (1, .int x1)]) hx hb dJ0_nextSetBit_62 rfl hl (by decide) (by first | rfl | simp [List.filter_cons, z_cat, z_catI, z_catJ, z_catF, z_catD]) (fun ls hl => ?_)
      obtain ⟨I_63, ⟨n_41, hI⟩, hB_63⟩ := hw
      have hL_63 : ∀ (n_23 : Nat) (x_19 : Int32) (x_20 : Int64) (hp_21 : zHp) (nx_22 : Nat) (H : Heap) (locs : List Loc) (ls : Array Slot), I_63 n_23 x_19 x_20 hp_21 nx_22 → lv_has ls 5 [(0, va_rf (some h0)), (1, .int x1), (2, .int x_19), (3, .long x_20)] → zHd g hp_21 H → H.size = nx_22 → va_S (zAd g) s.heap H locs → W p l e (zrm (d + 1) 0 0) s m ([.ref h0, .int x1] : List Value).toArray below meth c H locs 0 0 (MQ below (zQi g Post) ([.ref h0, .int x1] : List Value).toArray s 0 0 (zAd g)) (F0 m 63 ls []) := by
        intro n_23
        induction n_23 using Nat.strongRecOn with
        | _ n_23 ih_63 =>
          intro x_19 x_20 hp_21 nx_22 H locs ls hw hl hH hz hS
          have hw := hB_63 n_23 x_19 x_20 hp_21 nx_22 hw
          refine lv_lload_n hx hb dJ0_nextSetBit_63 rfl (lv_at hl 3 rfl) ?_
          refine lv_lconst (v := (0 : Int64)) hx hb dJ0_nextSetBit_64 (by decide) ?_
          refine W.lcmp hx hb dJ0_nextSetBit_65 ?_
          refine lv_if_eq (tgt := 79) hx hb dJ0_nextSetBit_66 (by decide) (fun hc => ?_) (fun hc => ?_)
          · have hw := hw.1 hc
            obtain ⟨x_24, ex_24⟩ : ∃ y : Int32, y = x_19 + (1 : Int32) := ⟨_, rfl⟩
            have hw := hw x_24 ex_24
            refine lv_iinc (v := x_24) (lv' := [(2, .int x_24), (0, va_rf (some h0)), (1, .int x1), (3, .long x_20)]) hx hb dJ0_nextSetBit_79 hl (k := 2) rfl (by rw [ex_24]; rfl) (by decide) (by first | rfl | simp [List.filter_cons, z_cat, z_catI, z_catJ, z_catF, z_catD]) (fun ls hl => ?_)
            refine lv_iload_n hx hb dJ0_nextSetBit_82 rfl (lv_at hl 0 rfl) ?_
            refine zr_aload_n (r := some h0) hx hb dJ0_nextSetBit_83 rfl (lv_at hl 1 rfl) ?_
            obtain ⟨a_25, ci_26, fs_27, x_28, er, he, hc, hv, hw⟩ := zgI_e hw
            refine zw_get hk hH er he hv (fk_J0_7 hc) dJ0_nextSetBit_84 ?_
            refine lv_icmp_ne (tgt := 92) hx hb dJ0_nextSetBit_87 (by decide) (fun hc => ?_) (fun hc => ?_)
            · have hw := hw.2 hc
              refine zr_aload_n (r := some h0) hx hb dJ0_nextSetBit_92 rfl (lv_at hl 1 rfl) ?_
              obtain ⟨a_29, ci_30, fs_31, r_32, er, he, hc, hv, hw⟩ := zgR_e hw
              refine zw_get hk hH er he hv (fk_J0_11 hc) dJ0_nextSetBit_93 ?_
              refine lv_iload_n hx hb dJ0_nextSetBit_96 rfl (lv_at hl 0 rfl) ?_
              obtain ⟨a_33, n_34, f_35, er, he, hi, hw⟩ := zaJ_e hw
              have hw := hw _ rfl
              refine zw_lald hk hH er he hi dJ0_nextSetBit_97 ?_
              generalize f_35 x_24.toNatClampNeg = x_36 at hw ⊢
              refine lv_lstore_n (i := 3) (lv' := [(3, .long x_36), (2, .int x_24), (0, va_rf (some h0)), (1, .int x1)]) hx hb dJ0_nextSetBit_98 rfl hl (by decide) (by first | rfl | simp [List.filter_cons, z_cat, z_catI, z_catJ, z_catF, z_catD]) (fun ls hl => ?_)
              refine lv_goto (tgt := 63) hx hb dJ0_nextSetBit_99 (by decide) ?_
              obtain ⟨k_37, hlt, hw⟩ := hw
              exact ih_63 k_37 hlt x_24 x_36 hp_21 nx_22 _ _ _ hw (lv_sub hl [2, 3, 1, 0] rfl) hH hz hS
            · have hw := hw.1 hc
              refine lv_iconst (v := (-1 : Int32)) hx hb dJ0_nextSetBit_90 (by decide) ?_
              exact zr_iret hk hr hH hz hS hw (Nat.le_of_ble_eq_true rfl) (Nat.le_of_ble_eq_true rfl) dJ0_nextSetBit_91
          · have hw := hw.2 hc
            refine lv_iload_n hx hb dJ0_nextSetBit_69 rfl (lv_at hl 2 rfl) ?_
            refine lv_bipush (v := (64 : Int32)) hx hb dJ0_nextSetBit_70 (by decide) ?_
            refine lv_imul hx hb dJ0_nextSetBit_72 ?_
            refine lv_lload_n hx hb dJ0_nextSetBit_73 rfl (lv_at hl 3 rfl) ?_
            refine zr_calli (zr_runS (As := [.long x_20]) hk hH hz hS hl.1 hw (va_cwS 1 hts (lw_S q950 q951 q156 q952) rfl rfl rfl (by decide +kernel) (z_room (Nat.le_of_ble_eq_true rfl))) rfl rfl (Nat.le_of_ble_eq_true rfl) dJ0_nextSetBit_74 ⟨Nat.le_of_ble_eq_true rfl, Nat.le_of_ble_eq_true rfl⟩) hS (fun x_40 hp_38 nx_39 hw H locs hH hz hS => ?_)
            refine lv_iadd hx hb dJ0_nextSetBit_77 ?_
            exact zr_iret hk hr hH hz hS hw (Nat.le_of_ble_eq_true rfl) (Nat.le_of_ble_eq_true rfl) dJ0_nextSetBit_78
      exact hL_63 n_41 x_5 x_18 hp_3 nx_4 _ _ _ hI (lv_sub hl [2, 3, 1, 0] rfl) hH hz hS
    · have hw := hw.2 hc
      refine lv_iconst (v := (-1 : Int32)) hx hb dJ0_nextSetBit_48 (by decide) ?_
      exact zr_iret hk hr hH hz hS hw (Nat.le_of_ble_eq_true rfl) (Nat.le_of_ble_eq_true rfl) dJ0_nextSetBit_49
  · have hw := hw.2 hc
    exact hw.elim
def wp_J0_or (l : Launch) (g : zG) (d : Nat) (mc ms : Nat) (h0 : Nat) (r1 : Option Nat) (hp : zHp) (nx : Nat) (Post : zHp → Nat → Prop) : Prop :=
  (((some h0) = r1 →
  (0 ≤ mc ∧ 0 ≤ ms ∧ Post hp nx)) ∧
  (¬ (some h0) = r1 →
  (zgI hp (some h0) [34] 1 fun x_4 =>
  (zgI hp r1 [34] 1 fun x_8 =>
  (0 ≤ mc ∧ 0 ≤ ms ∧ zMt l g yJ10_min cJ10_min 2 (some .int) d 0 0 [.int x_4, .int x_8] hp nx (zQi g fun x_11 hp_9 nx_10 =>
  (zgI hp_9 (some h0) [34] 1 fun x_15 =>
  (zgI hp_9 r1 [34] 1 fun x_19 =>
  (∃ P_45 : Int32 → zHp → Nat → Nat → Nat → Prop, (∀ (x_20 : Int32) (hp_21 : zHp) (nx_22 : Nat) (kc_23 : Nat) (ks_24 : Nat), P_45 x_20 hp_21 nx_22 kc_23 ks_24 →
  (∃ I_47 : Nat → Int32 → Int32 → zHp → Nat → Nat → Nat → Prop, (∃ n_88, I_47 n_88 x_20 (0 : Int32) hp_21 nx_22 kc_23 ks_24) ∧ ∀ (n_31 : Nat) (x_25 : Int32) (x_26 : Int32) (hp_27 : zHp) (nx_28 : Nat) (kc_29 : Nat) (ks_30 : Nat), I_47 n_31 x_25 x_26 hp_27 nx_28 kc_29 ks_30 →
  ((x_25 ≤ x_26 →
  (zgI hp_27 r1 [34] 1 fun x_35 =>
  (∃ P_100 : Int32 → Int32 → zHp → Nat → Nat → Nat → Prop, (∀ (x_36 : Int32) (x_37 : Int32) (hp_38 : zHp) (nx_39 : Nat) (kc_40 : Nat) (ks_41 : Nat), P_100 x_36 x_37 hp_38 nx_39 kc_40 ks_41 →
  (kc_40 ≤ mc ∧ ks_41 ≤ ms ∧ zo hp_38 (some h0) [34] fun a_44 ci_45 fs_46 => zMt l g yJ0_checkInvariants cJ0_checkInvariants 1 none d 0 0 (.ref a_44 :: []) hp_38 nx_39 (zQv g fun hp_42 nx_43 =>
  (kc_40 ≤ mc ∧ ks_41 ≤ ms ∧ Post hp_42 nx_43)))) ∧
  ((x_35 ≤ x_25 →
  P_100 x_25 x_26 hp_27 nx_28 kc_29 ks_30) ∧
  (¬ x_35 ≤ x_25 →
  (zgR hp_27 r1 [34] 0 fun r_50 =>
  (zgR hp_27 (some h0) [34] 0 fun r_54 =>
  (zgI hp_27 (some h0) [34] 1 fun x_58 =>
  (zaJ (g.2.1 4) hp_27 r_50 fun a_59 n_61 f_63 => zaJ (g.2.1 4) hp_27 r_54 fun a_60 n_62 f_64 => zB g ≤ a_60 ∧ ¬ x_25 < 0 ∧ ¬ x_25 < 0 ∧ ¬ (x_58 - x_25) < 0 ∧ x_25.toNatClampNeg + (x_58 - x_25).toNatClampNeg ≤ n_61 ∧ x_25.toNatClampNeg + (x_58 - x_25).toNatClampNeg ≤ n_62 ∧ (∀ i, i < (x_58 - x_25).toNatClampNeg → fits .long (.long (f_63 (x_25.toNatClampNeg + i))) = true) ∧ ∀ hp_65 : zHp, hp_65 = va_up hp_27 a_60 (some (.inl (g.2.1 4, n_62, .inr (.inl (va_cpy f_63 f_64 x_25.toNatClampNeg x_25.toNatClampNeg (x_58 - x_25).toNatClampNeg))))) →
  P_100 x_25 x_26 hp_65 nx_28 kc_29 ks_30))))))))) ∧
  (¬ x_25 ≤ x_26 →
  (zgR hp_27 (some h0) [34] 0 fun r_69 =>
  (zaJ (g.2.1 4) hp_27 r_69 fun a_70 n_71 f_72 => vp_in x_26 n_71 ∧ ∀ x_73 : Int64, x_73 = f_72 x_26.toNatClampNeg →
  (zgR hp_27 r1 [34] 0 fun r_77 =>
  (zaJ (g.2.1 4) hp_27 r_77 fun a_78 n_79 f_80 => vp_in x_26 n_79 ∧ ∀ x_81 : Int64, x_81 = f_80 x_26.toNatClampNeg →
  (zaJ (g.2.1 4) hp_27 r_69 fun a_82 n_83 f_84 => vp_in x_26 n_83 ∧ zB g ≤ a_82 ∧ ∀ hp_85 : zHp, hp_85 = va_up hp_27 a_82 (some (.inl (g.2.1 4, n_83, .inr (.inl (va_up f_84 x_26.toNatClampNeg (x_73 ||| x_81)))))) →
  (∀ x_86 : Int32, x_86 = x_26 + (1 : Int32) →
  (∃ k_87, k_87 < n_31 ∧ I_47 k_87 x_25 x_86 hp_85 nx_28 kc_29 ks_30))))))))))) ∧
  ((x_19 ≤ x_15 →
  P_45 x_11 hp_9 nx_10 0 0) ∧
  (¬ x_19 ≤ x_15 →
  (zgI hp_9 r1 [34] 1 fun x_92 =>
  (∃ c_93 s_94 : Nat, 0 + c_93 ≤ mc ∧ 0 + s_94 ≤ ms ∧ zo hp_9 (some h0) [34] fun a_105 ci_106 fs_107 => zMt l g yJ0_ensureCapacity cJ0_ensureCapacity 3 none d c_93 s_94 (.ref a_105 :: [.int x_92]) hp_9 nx_10 (zQv g fun hp_95 nx_96 =>
  (zgI hp_95 r1 [34] 1 fun x_100 =>
  (zpt g hp_95 (some h0) [34] 1 (.int x_100) fun hp_104 =>
  P_45 x_11 hp_104 nx_96 (0 + c_93) (0 + s_94)))))))))))))))))
set_option maxHeartbeats 40000000 in
theorem met_J0_or {l : Launch} {g : zG} {d : Nat} {mc ms : Nat} {h0 : Nat} {r1 : Option Nat} {hp : zHp} {nx : Nat} {Post : zHp → Nat → Prop} (hw : wp_J0_or l g d mc ms h0 r1 hp nx Post) : zMt l g yJ0_or cJ0_or 4 none (d + 1) mc ms [.ref h0, va_rf r1] hp nx (zQv g Post) := by
  refine z_start (by decide) (by cases r1 <;> exact Nat.le_of_ble_eq_true rfl) ?_
  intro p e s m below meth c hk hr hin hH hz ls hl
  have hx := hk.1.1
  have hb := hk.1.2.1
  have hown := hk.1.2.2.2.1
  have hts := hk.1.2.2.2.2
  have hS : va_S (zAd g) s.heap s.heap [] := va_S.rf
  have hl : lv_has ls 4 [(0, va_rf (some h0)), (1, va_rf r1)] := by cases r1 <;> exact hl
  unfold wp_J0_or at hw
  refine zr_aload_n (r := some h0) hx hb dJ0_or_0 rfl (lv_at hl 0 rfl) ?_
  refine zr_aload_n (r := r1) hx hb dJ0_or_1 rfl (lv_at hl 1 rfl) ?_
  refine lv_acmp_ne (rx := some h0) (ry := r1) (tgt := 6) hx hb dJ0_or_2 (by decide) (fun hc => ?_) (fun hc => ?_)
  · have hw := hw.2 hc
    refine zr_aload_n (r := some h0) hx hb dJ0_or_6 rfl (lv_at hl 0 rfl) ?_
    obtain ⟨a_1, ci_2, fs_3, x_4, er, he, hc, hv, hw⟩ := zgI_e hw
    refine zw_get hk hH er he hv (fk_J0_7 hc) dJ0_or_7 ?_
    refine zr_aload_n (r := r1) hx hb dJ0_or_10 rfl (lv_at hl 1 rfl) ?_
    obtain ⟨a_5, ci_6, fs_7, x_8, er, he, hc, hv, hw⟩ := zgI_e hw
    refine zw_get hk hH er he hv (fk_J0_7 hc) dJ0_or_11 ?_
    obtain ⟨hcl, hsl, hw⟩ := hw
    refine zr_calli (zr_runS (As := [.int x_4, .int x_8]) hk hH hz hS hl.1 hw (va_cwS 2 hts (lw_S q961 q428 q143 q429) rfl rfl rfl (by decide +kernel) (z_room (Nat.le_of_ble_eq_true rfl))) rfl rfl (Nat.le_of_ble_eq_true rfl) dJ0_or_14 ⟨hcl, hsl⟩) hS (fun x_11 hp_9 nx_10 hw H locs hH hz hS => ?_)
    refine lv_istore_n (i := 2) (lv' := [(2, .int x_11), (0, va_rf (some h0)), (1, va_rf r1)]) hx hb dJ0_or_17 rfl hl (by decide) (by first | rfl | simp [List.filter_cons, z_cat, z_catI, z_catJ, z_catF, z_catD]) (fun ls hl => ?_)
    refine zr_aload_n (r := some h0) hx hb dJ0_or_18 rfl (lv_at hl 1 rfl) ?_
    obtain ⟨a_12, ci_13, fs_14, x_15, er, he, hc, hv, hw⟩ := zgI_e hw
    refine zw_get hk hH er he hv (fk_J0_7 hc) dJ0_or_19 ?_
    refine zr_aload_n (r := r1) hx hb dJ0_or_22 rfl (lv_at hl 2 rfl) ?_
    obtain ⟨a_16, ci_17, fs_18, x_19, er, he, hc, hv, hw⟩ := zgI_e hw
    refine zw_get hk hH er he hv (fk_J0_7 hc) dJ0_or_23 ?_
    obtain ⟨P_45, hP_45, hw⟩ := hw
    have hJ_45 : ∀ (x_20 : Int32) (hp_21 : zHp) (nx_22 : Nat) (kc_23 : Nat) (ks_24 : Nat) (H : Heap) (locs : List Loc) (ls : Array Slot), P_45 x_20 hp_21 nx_22 kc_23 ks_24 → lv_has ls 4 [(0, va_rf (some h0)), (1, va_rf r1), (2, .int x_20)] → zHd g hp_21 H → H.size = nx_22 → va_S (zAd g) s.heap H locs → W p l e (zrm (d + 1) mc ms) s m ([.ref h0, va_rf r1] : List Value).toArray below meth c H locs kc_23 ks_24 (MQ below (zQv g Post) ([.ref h0, va_rf r1] : List Value).toArray s mc ms (zAd g)) (F0 m 45 ls []) := by
      intro x_20 hp_21 nx_22 kc_23 ks_24 H locs ls hw hl hH hz hS
      have hw := hP_45 x_20 hp_21 nx_22 kc_23 ks_24 hw
      refine lv_iconst (v := (0 : Int32)) hx hb dJ0_or_45 (by decide) ?_
      refine lv_istore_n (i := 3) (lv' := [(3, .int (0 : Int32)), (0, va_rf (some h0)), (1, va_rf r1), (2, .int x_20)]) hx hb dJ0_or_46 rfl hl (by decide) (by first | rfl | simp [List.filter_cons, z_cat, z_catI, z_catJ, z_catF, z_catD]) (fun ls hl => ?_)
      obtain ⟨I_47, ⟨n_88, hI⟩, hB_47⟩ := hw
      have hL_47 : ∀ (n_31 : Nat) (x_25 : Int32) (x_26 : Int32) (hp_27 : zHp) (nx_28 : Nat) (kc_29 : Nat) (ks_30 : Nat) (H : Heap) (locs : List Loc) (ls : Array Slot), I_47 n_31 x_25 x_26 hp_27 nx_28 kc_29 ks_30 → lv_has ls 4 [(0, va_rf (some h0)), (1, va_rf r1), (2, .int x_25), (3, .int x_26)] → zHd g hp_27 H → H.size = nx_28 → va_S (zAd g) s.heap H locs → W p l e (zrm (d + 1) mc ms) s m ([.ref h0, va_rf r1] : List Value).toArray below meth c H locs kc_29 ks_30 (MQ below (zQv g Post) ([.ref h0, va_rf r1] : List Value).toArray s mc ms (zAd g)) (F0 m 47 ls []) := by
        intro n_31
        induction n_31 using Nat.strongRecOn with
        | _ n_31 ih_47 =>
          intro x_25 x_26 hp_27 nx_28 kc_29 ks_30 H locs ls hw hl hH hz hS
          have hw := hB_47 n_31 x_25 x_26 hp_27 nx_28 kc_29 ks_30 hw
          refine lv_iload_n hx hb dJ0_or_47 rfl (lv_at hl 3 rfl) ?_
          refine lv_iload_n hx hb dJ0_or_48 rfl (lv_at hl 2 rfl) ?_
          refine lv_icmp_ge (tgt := 73) hx hb dJ0_or_49 (by decide) (fun hc => ?_) (fun hc => ?_)
          · have hw := hw.1 hc
            refine lv_iload_n hx hb dJ0_or_73 rfl (lv_at hl 2 rfl) ?_
            refine zr_aload_n (r := r1) hx hb dJ0_or_74 rfl (lv_at hl 1 rfl) ?_
            obtain ⟨a_32, ci_33, fs_34, x_35, er, he, hc, hv, hw⟩ := zgI_e hw
            refine zw_get hk hH er he hv (fk_J0_7 hc) dJ0_or_75 ?_
            obtain ⟨P_100, hP_100, hw⟩ := hw
            have hJ_100 : ∀ (x_36 : Int32) (x_37 : Int32) (hp_38 : zHp) (nx_39 : Nat) (kc_40 : Nat) (ks_41 : Nat) (H : Heap) (locs : List Loc) (ls : Array Slot), P_100 x_36 x_37 hp_38 nx_39 kc_40 ks_41 → lv_has ls 4 [(0, va_rf (some h0)), (1, va_rf r1), (2, .int x_36), (3, .int x_37)] → zHd g hp_38 H → H.size = nx_39 → va_S (zAd g) s.heap H locs → W p l e (zrm (d + 1) mc ms) s m ([.ref h0, va_rf r1] : List Value).toArray below meth c H locs kc_40 ks_41 (MQ below (zQv g Post) ([.ref h0, va_rf r1] : List Value).toArray s mc ms (zAd g)) (F0 m 100 ls []) := by
              intro x_36 x_37 hp_38 nx_39 kc_40 ks_41 H locs ls hw hl hH hz hS
              have hw := hP_100 x_36 x_37 hp_38 nx_39 kc_40 ks_41 hw
              refine zr_aload_n (r := some h0) hx hb dJ0_or_100 rfl (lv_at hl 0 rfl) ?_
              obtain ⟨hcl, hsl, hw⟩ := hw
              obtain ⟨a_44, ci_45, fs_46, er, he, hc, hw⟩ := zo_e hw
              obtain rfl := List.mem_singleton.mp hc
              refine zr_callv (zw_runV (As := []) hk hH hz hS hl.1 er hw (cwV 0 hts (lw_V q724 q726 qs6 q133 q727) rfl rfl rfl (by decide +kernel) (z_room (Nat.le_of_ble_eq_true rfl))) he rfl rfl rfl (Nat.le_of_ble_eq_true rfl) dJ0_or_101 ⟨hcl, hsl⟩) hS (fun hp_42 nx_43 hw H locs hH hz hS => ?_)
              obtain ⟨hkc, hks, hw⟩ := hw
              exact zr_vret hk hr hH hz hS hw hkc hks dJ0_or_104
            refine lv_icmp_ge (tgt := 100) hx hb dJ0_or_78 (by decide) (fun hc => ?_) (fun hc => ?_)
            · have hw := hw.1 hc
              exact hJ_100 x_25 x_26 hp_27 nx_28 kc_29 ks_30 _ _ _ hw hl hH hz hS
            · have hw := hw.2 hc
              refine zr_aload_n (r := r1) hx hb dJ0_or_81 rfl (lv_at hl 1 rfl) ?_
              obtain ⟨a_47, ci_48, fs_49, r_50, er, he, hc, hv, hw⟩ := zgR_e hw
              refine zw_get hk hH er he hv (fk_J0_11 hc) dJ0_or_82 ?_
              refine lv_iload_n hx hb dJ0_or_85 rfl (lv_at hl 2 rfl) ?_
              refine zr_aload_n (r := some h0) hx hb dJ0_or_86 rfl (lv_at hl 0 rfl) ?_
              obtain ⟨a_51, ci_52, fs_53, r_54, er, he, hc, hv, hw⟩ := zgR_e hw
              refine zw_get hk hH er he hv (fk_J0_11 hc) dJ0_or_87 ?_
              refine lv_iload_n hx hb dJ0_or_90 rfl (lv_at hl 2 rfl) ?_
              refine zr_aload_n (r := some h0) hx hb dJ0_or_91 rfl (lv_at hl 0 rfl) ?_
              obtain ⟨a_55, ci_56, fs_57, x_58, er, he, hc, hv, hw⟩ := zgI_e hw
              refine zw_get hk hH er he hv (fk_J0_7 hc) dJ0_or_92 ?_
              refine lv_iload_n hx hb dJ0_or_95 rfl (lv_at hl 2 rfl) ?_
              refine lv_isub hx hb dJ0_or_96 ?_
              obtain ⟨a_59, n_61, f_63, er0, he0, hw⟩ := zaJ_e hw
              obtain ⟨a_60, n_62, f_64, er1, he1, hA, h1, h2, h3, h4, h5, hft, hw⟩ := zaJ_e hw
              obtain ⟨hp_65, eh⟩ : ∃ y : zHp, y = va_up hp_27 a_60 (some (.inl (g.2.1 4, n_62, .inr (.inl (va_cpy f_63 f_64 x_25.toNatClampNeg x_25.toNatClampNeg (x_58 - x_25).toNatClampNeg))))) := ⟨_, rfl⟩
              have hw := hw hp_65 eh
              refine zw_copyJ (r0 := r_50) (r1 := r_54) (ty := .long) hk hH hz hS hl.1 q962 q432 q431 q145 4 er0 er1 he0 he1 rfl rfl hA h1 h2 h3 h4 h5 hft eh (Nat.le_add_left 1 d) (Nat.le_trans (Nat.le_of_ble_eq_true rfl : _ ≤ 64) (by show 64 ≤ 64 * (d + 1); omega)) dJ0_or_97 (fun H locs hH hz hS => ?_)
              exact hJ_100 x_25 x_26 hp_65 nx_28 kc_29 ks_30 _ _ _ hw hl hH hz hS
          · have hw := hw.2 hc
            refine zr_aload_n (r := some h0) hx hb dJ0_or_52 rfl (lv_at hl 0 rfl) ?_
            obtain ⟨a_66, ci_67, fs_68, r_69, er, he, hc, hv, hw⟩ := zgR_e hw
            refine zw_get hk hH er he hv (fk_J0_11 hc) dJ0_or_53 ?_
            refine lv_iload_n hx hb dJ0_or_56 rfl (lv_at hl 3 rfl) ?_
            refine lv_dup2_11 hx hb dJ0_or_57 rfl (z_cat _) ?_
            obtain ⟨a_70, n_71, f_72, er, he, hi, hw⟩ := zaJ_e hw
            have hw := hw _ rfl
            refine zw_lald hk hH er he hi dJ0_or_58 ?_
            generalize f_72 x_26.toNatClampNeg = x_73 at hw ⊢
            refine zr_aload_n (r := r1) hx hb dJ0_or_59 rfl (lv_at hl 1 rfl) ?_
            obtain ⟨a_74, ci_75, fs_76, r_77, er, he, hc, hv, hw⟩ := zgR_e hw
            refine zw_get hk hH er he hv (fk_J0_11 hc) dJ0_or_60 ?_
            refine lv_iload_n hx hb dJ0_or_63 rfl (lv_at hl 3 rfl) ?_
            obtain ⟨a_78, n_79, f_80, er, he, hi, hw⟩ := zaJ_e hw
            have hw := hw _ rfl
            refine zw_lald hk hH er he hi dJ0_or_64 ?_
            generalize f_80 x_26.toNatClampNeg = x_81 at hw ⊢
            refine lv_lor hx hb dJ0_or_65 ?_
            obtain ⟨a_82, n_83, f_84, er, he, hi, hA, hw⟩ := zaJ_e hw
            obtain ⟨hp_85, eh⟩ : ∃ y : zHp, y = va_up hp_27 a_82 (some (.inl (g.2.1 4, n_83, .inr (.inl (va_up f_84 x_26.toNatClampNeg (x_73 ||| x_81)))))) := ⟨_, rfl⟩
            have hw := hw hp_85 eh
            refine zw_last hk hH hz hS er he hi hA eh dJ0_or_66 (fun H locs hH hz hS => ?_)
            obtain ⟨x_86, ex_86⟩ : ∃ y : Int32, y = x_26 + (1 : Int32) := ⟨_, rfl⟩
            have hw := hw x_86 ex_86
            refine lv_iinc (v := x_86) (lv' := [(3, .int x_86), (0, va_rf (some h0)), (1, va_rf r1), (2, .int x_25)]) hx hb dJ0_or_67 hl (k := 3) rfl (by rw [ex_86]; rfl) (by decide) (by first | rfl | simp [List.filter_cons, z_cat, z_catI, z_catJ, z_catF, z_catD]) (fun ls hl => ?_)
            refine lv_goto (tgt := 47) hx hb dJ0_or_70 (by decide) ?_
            obtain ⟨k_87, hlt, hw⟩ := hw
            exact ih_47 k_87 hlt x_25 x_86 hp_85 nx_28 kc_29 ks_30 _ _ _ hw (lv_sub hl [1, 2, 3, 0] rfl) hH hz hS
      exact hL_47 n_88 x_20 (0 : Int32) hp_21 nx_22 kc_23 ks_24 _ _ _ hI (lv_sub hl [1, 2, 3, 0] rfl) hH hz hS
    refine lv_icmp_ge (tgt := 45) hx hb dJ0_or_26 (by decide) (fun hc => ?_) (fun hc => ?_)
    · have hw := hw.1 hc
      exact hJ_45 x_11 hp_9 nx_10 0 0 _ _ _ hw (lv_sub hl [1, 2, 0] rfl) hH hz hS
    · have hw := hw.2 hc
      refine zr_aload_n (r := some h0) hx hb dJ0_or_29 rfl (lv_at hl 1 rfl) ?_
      refine zr_aload_n (r := r1) hx hb dJ0_or_30 rfl (lv_at hl 2 rfl) ?_
      obtain ⟨a_89, ci_90, fs_91, x_92, er, he, hc, hv, hw⟩ := zgI_e hw
      refine zw_get hk hH er he hv (fk_J0_7 hc) dJ0_or_31 ?_
      obtain ⟨c_93, s_94, hcl, hsl, hw⟩ := hw
      obtain ⟨a_105, ci_106, fs_107, er, he, hc, hw⟩ := zo_e hw
      obtain rfl := List.mem_singleton.mp hc
      refine zr_callv (zw_runV (As := [.int x_92]) hk hH hz hS hl.1 er hw (cwV 1 hts (lw_V q931 q933 qs12 q133 q934) rfl rfl rfl (by decide +kernel) (z_room (Nat.le_of_ble_eq_true rfl))) he rfl rfl rfl (Nat.le_of_ble_eq_true rfl) dJ0_or_34 ⟨hcl, hsl⟩) hS (fun hp_95 nx_96 hw H locs hH hz hS => ?_)
      refine zr_aload_n (r := some h0) hx hb dJ0_or_37 rfl (lv_at hl 1 rfl) ?_
      refine zr_aload_n (r := r1) hx hb dJ0_or_38 rfl (lv_at hl 2 rfl) ?_
      obtain ⟨a_97, ci_98, fs_99, x_100, er, he, hc, hv, hw⟩ := zgI_e hw
      refine zw_get hk hH er he hv (fk_J0_7 hc) dJ0_or_39 ?_
      obtain ⟨a_101, ci_102, fs_103, hp_104, er, he, hc, hA, hkl, eh, hw⟩ := zpt_e hw
      refine zw_put hk hH hz hS er he hA hkl eh (fp_J0_7 hc) rfl rfl dJ0_or_42 (fun H locs hH hz hS => ?_)
      exact hJ_45 x_11 hp_104 nx_96 (0 + c_93) (0 + s_94) _ _ _ hw (lv_sub hl [1, 2, 0] rfl) hH hz hS
  · have hw := hw.1 hc
    obtain ⟨hkc, hks, hw⟩ := hw
    exact zr_vret hk hr hH hz hS hw hkc hks dJ0_or_5
def wp_J0_clear_2 (l : Launch) (g : zG) (d : Nat) (h0 : Nat) (x1 : Int32) (hp : zHp) (nx : Nat) (Post : zHp → Nat → Prop) : Prop :=
  ((0 ≤ x1 →
  (zMt l g yJ0_wordIndex cJ0_wordIndex 1 (some .int) d 0 0 [.int x1] hp nx (zQi g fun x_3 hp_1 nx_2 =>
  (zgI hp_1 (some h0) [34] 1 fun x_7 =>
  ((x_3 < x_7 →
  (zgR hp_1 (some h0) [34] 0 fun r_11 =>
  (zaJ (g.2.1 4) hp_1 r_11 fun a_12 n_13 f_14 => vp_in x_3 n_13 ∧ ∀ x_15 : Int64, x_15 = f_14 x_3.toNatClampNeg →
  (zaJ (g.2.1 4) hp_1 r_11 fun a_16 n_17 f_18 => vp_in x_3 n_17 ∧ zB g ≤ a_16 ∧ ∀ hp_19 : zHp, hp_19 = va_up hp_1 a_16 (some (.inl (g.2.1 4, n_17, .inr (.inl (va_up f_18 x_3.toNatClampNeg (x_15 &&& (((1 : Int64) <<< (x1.toInt64 &&& 63)) ^^^ (-1 : Int64)))))))) →
  (zo hp_19 (some h0) [34] fun a_27 ci_28 fs_29 => zMt l g yJ0_recalculateWordsInUse cJ0_recalculateWordsInUse 2 none d 0 0 (.ref a_27 :: []) hp_19 nx_2 (zQv g fun hp_20 nx_21 =>
  (zo hp_20 (some h0) [34] fun a_24 ci_25 fs_26 => zMt l g yJ0_checkInvariants cJ0_checkInvariants 1 none d 0 0 (.ref a_24 :: []) hp_20 nx_21 (zQv g fun hp_22 nx_23 =>
  (Post hp_22 nx_23))))))))) ∧
  (¬ x_3 < x_7 →
  (Post hp_1 nx_2))))))) ∧
  (¬ 0 ≤ x1 →
  False))
set_option maxHeartbeats 40000000 in
theorem met_J0_clear_2 {l : Launch} {g : zG} {d : Nat} {h0 : Nat} {x1 : Int32} {hp : zHp} {nx : Nat} {Post : zHp → Nat → Prop} (hw : wp_J0_clear_2 l g d h0 x1 hp nx Post) : zMt l g yJ0_clear_2 cJ0_clear_2 3 none (d + 1) 0 0 [.ref h0, .int x1] hp nx (zQv g Post) := by
  refine z_start (by decide) (Nat.le_of_ble_eq_true rfl) ?_
  intro p e s m below meth c hk hr hin hH hz ls hl
  have hx := hk.1.1
  have hb := hk.1.2.1
  have hown := hk.1.2.2.2.1
  have hts := hk.1.2.2.2.2
  have hS : va_S (zAd g) s.heap s.heap [] := va_S.rf
  have hl : lv_has ls 3 [(0, va_rf (some h0)), (1, .int x1)] := hl
  unfold wp_J0_clear_2 at hw
  refine lv_iload_n hx hb dJ0_clear_2_0 rfl (lv_at hl 1 rfl) ?_
  refine lv_if_ge (tgt := 31) hx hb dJ0_clear_2_1 (by decide) (fun hc => ?_) (fun hc => ?_)
  · have hw := hw.1 hc
    refine lv_iload_n hx hb dJ0_clear_2_31 rfl (lv_at hl 1 rfl) ?_
    refine zr_calli (zr_runS (As := [.int x1]) hk hH hz hS hl.1 hw (va_cwS 1 hts (lw_S q610 q611 q133 q612) rfl rfl rfl (by decide +kernel) (z_room (Nat.le_of_ble_eq_true rfl))) rfl rfl (Nat.le_of_ble_eq_true rfl) dJ0_clear_2_32 ⟨Nat.le_of_ble_eq_true rfl, Nat.le_of_ble_eq_true rfl⟩) hS (fun x_3 hp_1 nx_2 hw H locs hH hz hS => ?_)
    refine lv_istore_n (i := 2) (lv' := [(2, .int x_3), (0, va_rf (some h0)), (1, .int x1)]) hx hb dJ0_clear_2_35 rfl hl (by decide) (by first | rfl | simp [List.filter_cons, z_cat, z_catI, z_catJ, z_catF, z_catD]) (fun ls hl => ?_)
    refine lv_iload_n hx hb dJ0_clear_2_36 rfl (lv_at hl 0 rfl) ?_
    refine zr_aload_n (r := some h0) hx hb dJ0_clear_2_37 rfl (lv_at hl 1 rfl) ?_
    obtain ⟨a_4, ci_5, fs_6, x_7, er, he, hc, hv, hw⟩ := zgI_e hw
    refine zw_get hk hH er he hv (fk_J0_7 hc) dJ0_clear_2_38 ?_
    refine lv_icmp_lt (tgt := 45) hx hb dJ0_clear_2_41 (by decide) (fun hc => ?_) (fun hc => ?_)
    · have hw := hw.1 hc
      refine zr_aload_n (r := some h0) hx hb dJ0_clear_2_45 rfl (lv_at hl 1 rfl) ?_
      obtain ⟨a_8, ci_9, fs_10, r_11, er, he, hc, hv, hw⟩ := zgR_e hw
      refine zw_get hk hH er he hv (fk_J0_11 hc) dJ0_clear_2_46 ?_
      refine lv_iload_n hx hb dJ0_clear_2_49 rfl (lv_at hl 0 rfl) ?_
      refine lv_dup2_11 hx hb dJ0_clear_2_50 rfl (z_cat _) ?_
      obtain ⟨a_12, n_13, f_14, er, he, hi, hw⟩ := zaJ_e hw
      have hw := hw _ rfl
      refine zw_lald hk hH er he hi dJ0_clear_2_51 ?_
      generalize f_14 x_3.toNatClampNeg = x_15 at hw ⊢
      refine lv_lconst (v := (1 : Int64)) hx hb dJ0_clear_2_52 (by decide) ?_
      refine lv_iload_n hx hb dJ0_clear_2_53 rfl (lv_at hl 2 rfl) ?_
      refine lv_lshl hx hb dJ0_clear_2_54 rfl ?_
      refine lv_ldc2 hx hb hown (hts _ q949) dJ0_clear_2_55 ?_
      refine lv_lxor hx hb dJ0_clear_2_58 ?_
      refine lv_land hx hb dJ0_clear_2_59 ?_
      obtain ⟨a_16, n_17, f_18, er, he, hi, hA, hw⟩ := zaJ_e hw
      obtain ⟨hp_19, eh⟩ : ∃ y : zHp, y = va_up hp_1 a_16 (some (.inl (g.2.1 4, n_17, .inr (.inl (va_up f_18 x_3.toNatClampNeg (x_15 &&& (((1 : Int64) <<< (x1.toInt64 &&& 63)) ^^^ (-1 : Int64)))))))) := ⟨_, rfl⟩
      have hw := hw hp_19 eh
      refine zw_last hk hH hz hS er he hi hA eh dJ0_clear_2_60 (fun H locs hH hz hS => ?_)
      refine zr_aload_n (r := some h0) hx hb dJ0_clear_2_61 rfl (lv_at hl 1 rfl) ?_
      obtain ⟨a_27, ci_28, fs_29, er, he, hc, hw⟩ := zo_e hw
      obtain rfl := List.mem_singleton.mp hc
      refine zr_callv (zw_runV (As := []) hk hH hz hS hl.1 er hw (cwV 0 hts (lw_V q1160 q1162 qs18 q133 q1163) rfl rfl rfl (by decide +kernel) (z_room (Nat.le_of_ble_eq_true rfl))) he rfl rfl rfl (Nat.le_of_ble_eq_true rfl) dJ0_clear_2_62 ⟨Nat.le_of_ble_eq_true rfl, Nat.le_of_ble_eq_true rfl⟩) hS (fun hp_20 nx_21 hw H locs hH hz hS => ?_)
      refine zr_aload_n (r := some h0) hx hb dJ0_clear_2_65 rfl (lv_at hl 1 rfl) ?_
      obtain ⟨a_24, ci_25, fs_26, er, he, hc, hw⟩ := zo_e hw
      obtain rfl := List.mem_singleton.mp hc
      refine zr_callv (zw_runV (As := []) hk hH hz hS hl.1 er hw (cwV 0 hts (lw_V q724 q726 qs6 q133 q727) rfl rfl rfl (by decide +kernel) (z_room (Nat.le_of_ble_eq_true rfl))) he rfl rfl rfl (Nat.le_of_ble_eq_true rfl) dJ0_clear_2_66 ⟨Nat.le_of_ble_eq_true rfl, Nat.le_of_ble_eq_true rfl⟩) hS (fun hp_22 nx_23 hw H locs hH hz hS => ?_)
      exact zr_vret hk hr hH hz hS hw (Nat.le_of_ble_eq_true rfl) (Nat.le_of_ble_eq_true rfl) dJ0_clear_2_69
    · have hw := hw.2 hc
      exact zr_vret hk hr hH hz hS hw (Nat.le_of_ble_eq_true rfl) (Nat.le_of_ble_eq_true rfl) dJ0_clear_2_44
  · have hw := hw.2 hc
    exact hw.elim
def wp_J0_recalculateWordsInUse (l : Launch) (g : zG) (d : Nat) (h0 : Nat) (hp : zHp) (nx : Nat) (Post : zHp → Nat → Prop) : Prop :=
  (zgI hp (some h0) [34] 1 fun x_4 =>
  (∀ x_5 : Int32, x_5 = x_4 - (1 : Int32) →
  (∃ I_7 : Nat → Int32 → zHp → Prop, (∃ n_25, I_7 n_25 x_5 hp) ∧ ∀ (n_8 : Nat) (x_6 : Int32) (hp_7 : zHp), I_7 n_8 x_6 hp_7 →
  (∃ P_31 : Int32 → zHp → Prop, (∀ (x_9 : Int32) (hp_10 : zHp), P_31 x_9 hp_10 →
  (zpt g hp_10 (some h0) [34] 1 (.int (x_9 + (1 : Int32))) fun hp_14 =>
  (Post hp_14 nx))) ∧
  ((x_6 < 0 →
  P_31 x_6 hp_7) ∧
  (¬ x_6 < 0 →
  (zgR hp_7 (some h0) [34] 0 fun r_18 =>
  (zaJ (g.2.1 4) hp_7 r_18 fun a_19 n_20 f_21 => vp_in x_6 n_20 ∧ ∀ x_22 : Int64, x_22 = f_21 x_6.toNatClampNeg →
  (((lg_cmp x_22 (0 : Int64)) = 0 →
  (∀ x_23 : Int32, x_23 = x_6 + (-1 : Int32) →
  (∃ k_24, k_24 < n_8 ∧ I_7 k_24 x_23 hp_7))) ∧
  (¬ (lg_cmp x_22 (0 : Int64)) = 0 →
  P_31 x_6 hp_7))))))))))
set_option maxHeartbeats 40000000 in
theorem met_J0_recalculateWordsInUse {l : Launch} {g : zG} {d : Nat} {h0 : Nat} {hp : zHp} {nx : Nat} {Post : zHp → Nat → Prop} (hw : wp_J0_recalculateWordsInUse l g d h0 hp nx Post) : zMt l g yJ0_recalculateWordsInUse cJ0_recalculateWordsInUse 2 none (d + 1) 0 0 [.ref h0] hp nx (zQv g Post) := by
  refine z_start (by decide) (Nat.le_of_ble_eq_true rfl) ?_
  intro p e s m below meth c hk hr hin hH hz ls hl
  have hx := hk.1.1
  have hb := hk.1.2.1
  have hown := hk.1.2.2.2.1
  have hts := hk.1.2.2.2.2
  have hS : va_S (zAd g) s.heap s.heap [] := va_S.rf
  have hl : lv_has ls 2 [(0, va_rf (some h0))] := hl
  unfold wp_J0_recalculateWordsInUse at hw
  refine zr_aload_n (r := some h0) hx hb dJ0_recalculateWordsInUse_0 rfl (lv_at hl 0 rfl) ?_
  obtain ⟨a_1, ci_2, fs_3, x_4, er, he, hc, hv, hw⟩ := zgI_e hw
  refine zw_get hk hH er he hv (fk_J0_7 hc) dJ0_recalculateWordsInUse_1 ?_
  refine lv_iconst (v := (1 : Int32)) hx hb dJ0_recalculateWordsInUse_4 (by decide) ?_
  refine lv_isub hx hb dJ0_recalculateWordsInUse_5 ?_
  refine lv_topi (fun x_5 ex_5 => ?_)
  have hw := hw x_5 ex_5
  refine lv_istore_n (i := 1) (lv' := [(1, .int x_5), (0, va_rf (some h0))]) hx hb dJ0_recalculateWordsInUse_6 rfl hl (by decide) (by first | rfl | simp [List.filter_cons, z_cat, z_catI, z_catJ, z_catF, z_catD]) (fun ls hl => ?_)
  obtain ⟨I_7, ⟨n_25, hI⟩, hB_7⟩ := hw
  have hL_7 : ∀ (n_8 : Nat) (x_6 : Int32) (hp_7 : zHp) (H : Heap) (locs : List Loc) (ls : Array Slot), I_7 n_8 x_6 hp_7 → lv_has ls 2 [(0, va_rf (some h0)), (1, .int x_6)] → zHd g hp_7 H → H.size = nx → va_S (zAd g) s.heap H locs → W p l e (zrm (d + 1) 0 0) s m ([.ref h0] : List Value).toArray below meth c H locs 0 0 (MQ below (zQv g Post) ([.ref h0] : List Value).toArray s 0 0 (zAd g)) (F0 m 7 ls []) := by
    intro n_8
    induction n_8 using Nat.strongRecOn with
    | _ n_8 ih_7 =>
      intro x_6 hp_7 H locs ls hw hl hH hz hS
      have hw := hB_7 n_8 x_6 hp_7 hw
      refine lv_iload_n hx hb dJ0_recalculateWordsInUse_7 rfl (lv_at hl 1 rfl) ?_
      obtain ⟨P_31, hP_31, hw⟩ := hw
      have hJ_31 : ∀ (x_9 : Int32) (hp_10 : zHp) (H : Heap) (locs : List Loc) (ls : Array Slot), P_31 x_9 hp_10 → lv_has ls 2 [(0, va_rf (some h0)), (1, .int x_9)] → zHd g hp_10 H → H.size = nx → va_S (zAd g) s.heap H locs → W p l e (zrm (d + 1) 0 0) s m ([.ref h0] : List Value).toArray below meth c H locs 0 0 (MQ below (zQv g Post) ([.ref h0] : List Value).toArray s 0 0 (zAd g)) (F0 m 31 ls []) := by
        intro x_9 hp_10 H locs ls hw hl hH hz hS
        have hw := hP_31 x_9 hp_10 hw
        refine zr_aload_n (r := some h0) hx hb dJ0_recalculateWordsInUse_31 rfl (lv_at hl 0 rfl) ?_
        refine lv_iload_n hx hb dJ0_recalculateWordsInUse_32 rfl (lv_at hl 1 rfl) ?_
        refine lv_iconst (v := (1 : Int32)) hx hb dJ0_recalculateWordsInUse_33 (by decide) ?_
        refine lv_iadd hx hb dJ0_recalculateWordsInUse_34 ?_
        obtain ⟨a_11, ci_12, fs_13, hp_14, er, he, hc, hA, hkl, eh, hw⟩ := zpt_e hw
        refine zw_put hk hH hz hS er he hA hkl eh (fp_J0_7 hc) rfl rfl dJ0_recalculateWordsInUse_35 (fun H locs hH hz hS => ?_)
        exact zr_vret hk hr hH hz hS hw (Nat.le_of_ble_eq_true rfl) (Nat.le_of_ble_eq_true rfl) dJ0_recalculateWordsInUse_38
      refine lv_if_lt (tgt := 31) hx hb dJ0_recalculateWordsInUse_8 (by decide) (fun hc => ?_) (fun hc => ?_)
      · have hw := hw.1 hc
        exact hJ_31 x_6 hp_7 _ _ _ hw hl hH hz hS
      · have hw := hw.2 hc
        refine zr_aload_n (r := some h0) hx hb dJ0_recalculateWordsInUse_11 rfl (lv_at hl 0 rfl) ?_
        obtain ⟨a_15, ci_16, fs_17, r_18, er, he, hc, hv, hw⟩ := zgR_e hw
        refine zw_get hk hH er he hv (fk_J0_11 hc) dJ0_recalculateWordsInUse_12 ?_
        refine lv_iload_n hx hb dJ0_recalculateWordsInUse_15 rfl (lv_at hl 1 rfl) ?_
        obtain ⟨a_19, n_20, f_21, er, he, hi, hw⟩ := zaJ_e hw
        have hw := hw _ rfl
        refine zw_lald hk hH er he hi dJ0_recalculateWordsInUse_16 ?_
        generalize f_21 x_6.toNatClampNeg = x_22 at hw ⊢
        refine lv_lconst (v := (0 : Int64)) hx hb dJ0_recalculateWordsInUse_17 (by decide) ?_
        refine W.lcmp hx hb dJ0_recalculateWordsInUse_18 ?_
        refine lv_if_eq (tgt := 25) hx hb dJ0_recalculateWordsInUse_19 (by decide) (fun hc => ?_) (fun hc => ?_)
        · have hw := hw.1 hc
          obtain ⟨x_23, ex_23⟩ : ∃ y : Int32, y = x_6 + (-1 : Int32) := ⟨_, rfl⟩
          have hw := hw x_23 ex_23
          refine lv_iinc (v := x_23) (lv' := [(1, .int x_23), (0, va_rf (some h0))]) hx hb dJ0_recalculateWordsInUse_25 hl (k := 1) rfl (by rw [ex_23]; rfl) (by decide) (by first | rfl | simp [List.filter_cons, z_cat, z_catI, z_catJ, z_catF, z_catD]) (fun ls hl => ?_)
          refine lv_goto (tgt := 7) hx hb dJ0_recalculateWordsInUse_28 (by decide) ?_
          obtain ⟨k_24, hlt, hw⟩ := hw
          exact ih_7 k_24 hlt x_23 hp_7 _ _ _ hw (lv_sub hl [1, 0] rfl) hH hz hS
        · have hw := hw.2 hc
          refine lv_goto (tgt := 31) hx hb dJ0_recalculateWordsInUse_22 (by decide) ?_
          exact hJ_31 x_6 hp_7 _ _ _ hw hl hH hz hS
  exact hL_7 n_25 x_5 hp _ _ _ hI (lv_sub hl [1, 0] rfl) hH hz hS
def wp_J10_max (l : Launch) (g : zG) (d : Nat) (x0 : Int32) (x1 : Int32) (hp : zHp) (nx : Nat) (Post : Int32 → zHp → Nat → Prop) : Prop :=
  (∃ P_10 : Int32 → Prop, (∀ (x_1 : Int32), P_10 x_1 →
  (Post x_1 hp nx)) ∧
  ((x0 < x1 →
  P_10 x1) ∧
  (¬ x0 < x1 →
  P_10 x0)))
set_option maxHeartbeats 40000000 in
theorem met_J10_max {l : Launch} {g : zG} {d : Nat} {x0 : Int32} {x1 : Int32} {hp : zHp} {nx : Nat} {Post : Int32 → zHp → Nat → Prop} (hw : wp_J10_max l g d x0 x1 hp nx Post) : zMt l g yJ10_max cJ10_max 2 (some .int) (d + 1) 0 0 [.int x0, .int x1] hp nx (zQi g Post) := by
  refine z_startF (by decide +kernel) (Nat.le_of_ble_eq_true rfl) ?_
  intro p e s m below meth c hk hr hin hH hz ls hl
  have hx := hk.1.1
  have hb := hk.1.2.1
  have hown := hk.1.2.2.2.1
  have hts := hk.1.2.2.2.2
  have hS : va_S (zAd g) s.heap s.heap [] := va_S.rf
  have hl : lv_has ls 2 [(0, .int x0), (1, .int x1)] := hl
  unfold wp_J10_max at hw
  refine lv_iload_n hx hb dJ10_max_0 rfl (lv_at hl 0 rfl) ?_
  refine lv_iload_n hx hb dJ10_max_1 rfl (lv_at hl 1 rfl) ?_
  obtain ⟨P_10, hP_10, hw⟩ := hw
  have hJ_10 : ∀ (x_1 : Int32) (H : Heap) (locs : List Loc) (ls : Array Slot), P_10 x_1 → lv_has ls 2 [(0, .int x0), (1, .int x1)] → zHd g hp H → H.size = nx → va_S (zAd g) s.heap H locs → W p l e (zrm (d + 1) 0 0) s m ([.int x0, .int x1] : List Value).toArray below meth c H locs 0 0 (MQ below (zQi g Post) ([.int x0, .int x1] : List Value).toArray s 0 0 (zAd g)) (F0 m 10 ls [.int x_1]) := by
    intro x_1 H locs ls hw hl hH hz hS
    have hw := hP_10 x_1 hw
    exact zr_iret hk hr hH hz hS hw (Nat.le_of_ble_eq_true rfl) (Nat.le_of_ble_eq_true rfl) dJ10_max_10
  refine lv_icmp_lt (tgt := 9) hx hb dJ10_max_2 (by decide) (fun hc => ?_) (fun hc => ?_)
  · have hw := hw.1 hc
    refine lv_iload_n hx hb dJ10_max_9 rfl (lv_at hl 1 rfl) ?_
    exact hJ_10 x1 _ _ _ hw hl hH hz hS
  · have hw := hw.2 hc
    refine lv_iload_n hx hb dJ10_max_5 rfl (lv_at hl 0 rfl) ?_
    refine lv_goto (tgt := 10) hx hb dJ10_max_6 (by decide) ?_
    exact hJ_10 x0 _ _ _ hw hl hH hz hS
def wp_J10_min (l : Launch) (g : zG) (d : Nat) (x0 : Int32) (x1 : Int32) (hp : zHp) (nx : Nat) (Post : Int32 → zHp → Nat → Prop) : Prop :=
  (∃ P_10 : Int32 → Prop, (∀ (x_1 : Int32), P_10 x_1 →
  (Post x_1 hp nx)) ∧
  ((x1 < x0 →
  P_10 x1) ∧
  (¬ x1 < x0 →
  P_10 x0)))
set_option maxHeartbeats 40000000 in
theorem met_J10_min {l : Launch} {g : zG} {d : Nat} {x0 : Int32} {x1 : Int32} {hp : zHp} {nx : Nat} {Post : Int32 → zHp → Nat → Prop} (hw : wp_J10_min l g d x0 x1 hp nx Post) : zMt l g yJ10_min cJ10_min 2 (some .int) (d + 1) 0 0 [.int x0, .int x1] hp nx (zQi g Post) := by
  refine z_startF (by decide +kernel) (Nat.le_of_ble_eq_true rfl) ?_
  intro p e s m below meth c hk hr hin hH hz ls hl
  have hx := hk.1.1
  have hb := hk.1.2.1
  have hown := hk.1.2.2.2.1
  have hts := hk.1.2.2.2.2
  have hS : va_S (zAd g) s.heap s.heap [] := va_S.rf
  have hl : lv_has ls 2 [(0, .int x0), (1, .int x1)] := hl
  unfold wp_J10_min at hw
  refine lv_iload_n hx hb dJ10_min_0 rfl (lv_at hl 0 rfl) ?_
  refine lv_iload_n hx hb dJ10_min_1 rfl (lv_at hl 1 rfl) ?_
  obtain ⟨P_10, hP_10, hw⟩ := hw
  have hJ_10 : ∀ (x_1 : Int32) (H : Heap) (locs : List Loc) (ls : Array Slot), P_10 x_1 → lv_has ls 2 [(0, .int x0), (1, .int x1)] → zHd g hp H → H.size = nx → va_S (zAd g) s.heap H locs → W p l e (zrm (d + 1) 0 0) s m ([.int x0, .int x1] : List Value).toArray below meth c H locs 0 0 (MQ below (zQi g Post) ([.int x0, .int x1] : List Value).toArray s 0 0 (zAd g)) (F0 m 10 ls [.int x_1]) := by
    intro x_1 H locs ls hw hl hH hz hS
    have hw := hP_10 x_1 hw
    exact zr_iret hk hr hH hz hS hw (Nat.le_of_ble_eq_true rfl) (Nat.le_of_ble_eq_true rfl) dJ10_min_10
  refine lv_icmp_gt (tgt := 9) hx hb dJ10_min_2 (by decide) (fun hc => ?_) (fun hc => ?_)
  · have hw := hw.1 hc
    refine lv_iload_n hx hb dJ10_min_9 rfl (lv_at hl 1 rfl) ?_
    exact hJ_10 x1 _ _ _ hw hl hH hz hS
  · have hw := hw.2 hc
    refine lv_iload_n hx hb dJ10_min_5 rfl (lv_at hl 0 rfl) ?_
    refine lv_goto (tgt := 10) hx hb dJ10_min_6 (by decide) ?_
    exact hJ_10 x0 _ _ _ hw hl hH hz hS
def wp_J10_min_2 (l : Launch) (g : zG) (d : Nat) (x0 : Int64) (x2 : Int64) (hp : zHp) (nx : Nat) (Post : Int64 → zHp → Nat → Prop) : Prop :=
  (∃ P_11 : Int64 → Prop, (∀ (x_1 : Int64), P_11 x_1 →
  (Post x_1 hp nx)) ∧
  ((0 < (lg_cmp x0 x2) →
  P_11 x2) ∧
  (¬ 0 < (lg_cmp x0 x2) →
  P_11 x0)))
set_option maxHeartbeats 40000000 in
theorem met_J10_min_2 {l : Launch} {g : zG} {d : Nat} {x0 : Int64} {x2 : Int64} {hp : zHp} {nx : Nat} {Post : Int64 → zHp → Nat → Prop} (hw : wp_J10_min_2 l g d x0 x2 hp nx Post) : zMt l g yJ10_min_2 cJ10_min_2 4 (some .long) (d + 1) 0 0 [.long x0, .long x2] hp nx (zQl g Post) := by
  refine z_startF (by decide +kernel) (Nat.le_of_ble_eq_true rfl) ?_
  intro p e s m below meth c hk hr hin hH hz ls hl
  have hx := hk.1.1
  have hb := hk.1.2.1
  have hown := hk.1.2.2.2.1
  have hts := hk.1.2.2.2.2
  have hS : va_S (zAd g) s.heap s.heap [] := va_S.rf
  have hl : lv_has ls 4 [(0, .long x0), (2, .long x2)] := hl
  unfold wp_J10_min_2 at hw
  refine lv_lload_n hx hb dJ10_min_2_0 rfl (lv_at hl 0 rfl) ?_
  refine lv_lload_n hx hb dJ10_min_2_1 rfl (lv_at hl 1 rfl) ?_
  refine W.lcmp hx hb dJ10_min_2_2 ?_
  obtain ⟨P_11, hP_11, hw⟩ := hw
  have hJ_11 : ∀ (x_1 : Int64) (H : Heap) (locs : List Loc) (ls : Array Slot), P_11 x_1 → lv_has ls 4 [(0, .long x0), (2, .long x2)] → zHd g hp H → H.size = nx → va_S (zAd g) s.heap H locs → W p l e (zrm (d + 1) 0 0) s m ([.long x0, .long x2] : List Value).toArray below meth c H locs 0 0 (MQ below (zQl g Post) ([.long x0, .long x2] : List Value).toArray s 0 0 (zAd g)) (F0 m 11 ls [.long x_1]) := by
    intro x_1 H locs ls hw hl hH hz hS
    have hw := hP_11 x_1 hw
    exact zr_lret hk hr hH hz hS hw (Nat.le_of_ble_eq_true rfl) (Nat.le_of_ble_eq_true rfl) dJ10_min_2_11
  refine lv_if_gt (tgt := 10) hx hb dJ10_min_2_3 (by decide) (fun hc => ?_) (fun hc => ?_)
  · have hw := hw.1 hc
    refine lv_lload_n hx hb dJ10_min_2_10 rfl (lv_at hl 1 rfl) ?_
    exact hJ_11 x2 _ _ _ hw hl hH hz hS
  · have hw := hw.2 hc
    refine lv_lload_n hx hb dJ10_min_2_6 rfl (lv_at hl 0 rfl) ?_
    refine lv_goto (tgt := 11) hx hb dJ10_min_2_7 (by decide) ?_
    exact hJ_11 x0 _ _ _ hw hl hH hz hS
def wp_J11_copyOfRangeByte (l : Launch) (g : zG) (d : Nat) (mc ms : Nat) (r0 : Option Nat) (x1 : Int32) (x2 : Int32) (hp : zHp) (nx : Nat) (Post : Option Nat → zHp → Nat → Prop) : Prop :=
  (0 ≤ mc ∧ 0 ≤ ms ∧ zMt l g yJ11_checkLength cJ11_checkLength 2 none d 0 0 [.int x1, .int x2] hp nx (zQv g fun hp_1 nx_2 =>
  (∀ x_3 : Int32, x_3 = x2 - x1 →
  (zna g mc ms hp_1 nx_2 0 0 2 x_3 (.inl (fun _ => 0)) fun hp_4 =>
  ∀ nx_5 kc_6 ks_7 : Nat, nx_5 = (nx_2 + 1) → kc_6 = (0 + 1) → ks_7 = (0 + x_3.toNatClampNeg) →
  (zln (g.2.1 2) hp_4 r0 fun x_10 =>
  (kc_6 ≤ mc ∧ ks_7 ≤ ms ∧ zMt l g yJ10_min cJ10_min 2 (some .int) d 0 0 [.int (x_10 - x1), .int x_3] hp_4 nx_5 (zQi g fun x_13 hp_11 nx_12 =>
  (zaI (g.2.1 2) hp_11 r0 fun a_14 n_16 f_18 => zaI (g.2.1 2) hp_11 (some nx_2) fun a_15 n_17 f_19 => zB g ≤ a_15 ∧ ¬ x1 < 0 ∧ ¬ (0 : Int32) < 0 ∧ ¬ x_13 < 0 ∧ x1.toNatClampNeg + x_13.toNatClampNeg ≤ n_16 ∧ (0 : Int32).toNatClampNeg + x_13.toNatClampNeg ≤ n_17 ∧ (∀ i, i < x_13.toNatClampNeg → fits .byte (.int (f_18 (x1.toNatClampNeg + i))) = true) ∧ ∀ hp_20 : zHp, hp_20 = va_up hp_11 a_15 (some (.inl (g.2.1 2, n_17, .inl (va_cpy f_18 f_19 x1.toNatClampNeg (0 : Int32).toNatClampNeg x_13.toNatClampNeg)))) →
  (kc_6 ≤ mc ∧ ks_7 ≤ ms ∧ Post (some nx_2) hp_20 nx_12)))))))))
set_option maxHeartbeats 40000000 in
theorem met_J11_copyOfRangeByte {l : Launch} {g : zG} {d : Nat} {mc ms : Nat} {r0 : Option Nat} {x1 : Int32} {x2 : Int32} {hp : zHp} {nx : Nat} {Post : Option Nat → zHp → Nat → Prop} (hw : wp_J11_copyOfRangeByte l g d mc ms r0 x1 x2 hp nx Post) : zMt l g yJ11_copyOfRangeByte cJ11_copyOfRangeByte 5 (some (.array .byte)) (d + 1) mc ms [va_rf r0, .int x1, .int x2] hp nx (zQq g Post) := by
  refine z_start (by decide) (by cases r0 <;> exact Nat.le_of_ble_eq_true rfl) ?_
  intro p e s m below meth c hk hr hin hH hz ls hl
  have hx := hk.1.1
  have hb := hk.1.2.1
  have hown := hk.1.2.2.2.1
  have hts := hk.1.2.2.2.2
  have hS : va_S (zAd g) s.heap s.heap [] := va_S.rf
  have hl : lv_has ls 5 [(0, va_rf r0), (1, .int x1), (2, .int x2)] := by cases r0 <;> exact hl
  unfold wp_J11_copyOfRangeByte at hw
  refine lv_iload_n hx hb dJ11_copyOfRangeByte_0 rfl (lv_at hl 1 rfl) ?_
  refine lv_iload_n hx hb dJ11_copyOfRangeByte_1 rfl (lv_at hl 2 rfl) ?_
  obtain ⟨hcl, hsl, hw⟩ := hw
  refine zr_callv (zr_runS (As := [.int x1, .int x2]) hk hH hz hS hl.1 hw (va_cwS 2 hts (lw_S q565 q566 q144 q567) rfl rfl rfl (by decide +kernel) (z_room (Nat.le_of_ble_eq_true rfl))) rfl rfl (Nat.le_of_ble_eq_true rfl) dJ11_copyOfRangeByte_2 ⟨hcl, hsl⟩) hS (fun hp_1 nx_2 hw H locs hH hz hS => ?_)
  refine lv_iload_n hx hb dJ11_copyOfRangeByte_5 rfl (lv_at hl 2 rfl) ?_
  refine lv_iload_n hx hb dJ11_copyOfRangeByte_6 rfl (lv_at hl 1 rfl) ?_
  refine lv_isub hx hb dJ11_copyOfRangeByte_7 ?_
  refine lv_topi (fun x_3 ex_3 => ?_)
  have hw := hw x_3 ex_3
  refine lv_istore_n (i := 3) (lv' := [(3, .int x_3), (0, va_rf r0), (1, .int x1), (2, .int x2)]) hx hb dJ11_copyOfRangeByte_8 rfl hl (by decide) (by first | rfl | simp [List.filter_cons, z_cat, z_catI, z_catJ, z_catF, z_catD]) (fun ls hl => ?_)
  refine lv_iload_n hx hb dJ11_copyOfRangeByte_9 rfl (lv_at hl 0 rfl) ?_
  obtain ⟨hn0, hn1, hcl, hsl, hw⟩ := hw
  refine zx_newa hk hH hz hS (atype := .byte) 2 (ty := .byte) rfl q276 rfl (fun _ _ h => h) (a0 := (x_3.toNatClampNeg, .inl (fun _ => 0))) (fun _ => rfl) hn0 rfl (by simp only [componentBytes]; omega) hcl hsl dJ11_copyOfRangeByte_10 (fun H hH hz hS hlt hnb => ?_)
  have hw := hw hlt hnb
  generalize va_up hp_1 nx_2 _ = hp_4 at hH hw
  obtain ⟨kc_6, ekc⟩ : ∃ k, k = (0 + 1) := ⟨_, rfl⟩
  obtain ⟨ks_7, eks⟩ : ∃ k, k = (0 + x_3.toNatClampNeg) := ⟨_, rfl⟩
  have hw := hw _ _ _ rfl ekc eks
  refine W.widen (Nat.le_of_eq ekc.symm) (Nat.le_of_eq eks.symm) ?_
  clear ekc eks
  generalize (nx_2 + 1) = nx_5 at hz hw
  refine zr_astore (r := some nx_2) (lv' := [(4, va_rf (some nx_2)), (3, .int x_3), (0, va_rf r0), (1, .int x1), (2, .int x2)]) hx hb dJ11_copyOfRangeByte_12 hl (by decide) (by first | rfl | simp [List.filter_cons, z_cat, z_catI, z_catJ, z_catF, z_catD]) (fun ls hl => ?_)
  refine zr_aload_n (r := r0) hx hb dJ11_copyOfRangeByte_14 rfl (lv_at hl 2 rfl) ?_
  refine lv_iload_n hx hb dJ11_copyOfRangeByte_15 rfl (lv_at hl 3 rfl) ?_
  refine zr_aload (r := some nx_2) hx hb dJ11_copyOfRangeByte_16 (lv_at hl 0 rfl) ?_
  refine lv_iconst (v := (0 : Int32)) hx hb dJ11_copyOfRangeByte_18 (by decide) ?_
  refine zr_aload_n (r := r0) hx hb dJ11_copyOfRangeByte_19 rfl (lv_at hl 2 rfl) ?_
  obtain ⟨a_8, v_9, er, he, hw⟩ := zln_e hw
  refine zw_alen hk hH 2 er he rfl dJ11_copyOfRangeByte_20 ?_
  generalize Int32.ofNat v_9.1 = x_10 at hw ⊢
  refine lv_iload_n hx hb dJ11_copyOfRangeByte_21 rfl (lv_at hl 3 rfl) ?_
  refine lv_isub hx hb dJ11_copyOfRangeByte_22 ?_
  refine lv_iload_n hx hb dJ11_copyOfRangeByte_23 rfl (lv_at hl 1 rfl) ?_
  obtain ⟨hcl, hsl, hw⟩ := hw
  refine zr_calli (zr_runS (As := [.int (x_10 - x1), .int x_3]) hk hH hz hS hl.1 hw (va_cwS 2 hts (lw_S q427 q428 q143 q429) rfl rfl rfl (by decide +kernel) (z_room (Nat.le_of_ble_eq_true rfl))) rfl rfl (by simp only [List.map_cons, List.map_nil, z_cat]; exact Nat.le_of_ble_eq_true rfl) dJ11_copyOfRangeByte_24 ⟨hcl, hsl⟩) hS (fun x_13 hp_11 nx_12 hw H locs hH hz hS => ?_)
  obtain ⟨a_14, n_16, f_18, er0, he0, hw⟩ := zaI_e hw
  obtain ⟨a_15, n_17, f_19, er1, he1, hA, h1, h2, h3, h4, h5, hft, hw⟩ := zaI_e hw
  obtain ⟨hp_20, eh⟩ : ∃ y : zHp, y = va_up hp_11 a_15 (some (.inl (g.2.1 2, n_17, .inl (va_cpy f_18 f_19 x1.toNatClampNeg (0 : Int32).toNatClampNeg x_13.toNatClampNeg)))) := ⟨_, rfl⟩
  have hw := hw hp_20 eh
  refine zw_copyI (r0 := r0) (r1 := some nx_2) (ty := .byte) hk hH hz hS hl.1 q430 q432 q431 q145 2 er0 er1 he0 he1 rfl rfl hA h1 h2 h3 h4 h5 hft eh (Nat.le_add_left 1 d) (Nat.le_trans (Nat.le_of_ble_eq_true rfl : _ ≤ 64) (by show 64 ≤ 64 * (d + 1); omega)) dJ11_copyOfRangeByte_27 (fun H locs hH hz hS => ?_)
  refine zr_aload (r := some nx_2) hx hb dJ11_copyOfRangeByte_30 (lv_at hl 0 rfl) ?_
  obtain ⟨hkc, hks, hw⟩ := hw
  exact zr_aret (r := some nx_2) hk hr (Or.inr ⟨_, rfl⟩) hH hz hS hw hkc hks dJ11_copyOfRangeByte_32
def wp_J11_checkLength (l : Launch) (g : zG) (d : Nat) (x0 : Int32) (x1 : Int32) (hp : zHp) (nx : Nat) (Post : zHp → Nat → Prop) : Prop :=
  ((x0 ≤ x1 →
  (Post hp nx)) ∧
  (¬ x0 ≤ x1 →
  False))
set_option maxHeartbeats 40000000 in
theorem met_J11_checkLength {l : Launch} {g : zG} {d : Nat} {x0 : Int32} {x1 : Int32} {hp : zHp} {nx : Nat} {Post : zHp → Nat → Prop} (hw : wp_J11_checkLength l g d x0 x1 hp nx Post) : zMt l g yJ11_checkLength cJ11_checkLength 2 none (d + 1) 0 0 [.int x0, .int x1] hp nx (zQv g Post) := by
  refine z_start (by decide) (Nat.le_of_ble_eq_true rfl) ?_
  intro p e s m below meth c hk hr hin hH hz ls hl
  have hx := hk.1.1
  have hb := hk.1.2.1
  have hown := hk.1.2.2.2.1
  have hts := hk.1.2.2.2.2
  have hS : va_S (zAd g) s.heap s.heap [] := va_S.rf
  have hl : lv_has ls 2 [(0, .int x0), (1, .int x1)] := hl
  unfold wp_J11_checkLength at hw
  refine lv_iload_n hx hb dJ11_checkLength_0 rfl (lv_at hl 1 rfl) ?_
  refine lv_iload_n hx hb dJ11_checkLength_1 rfl (lv_at hl 0 rfl) ?_
  refine lv_icmp_ge (tgt := 37) hx hb dJ11_checkLength_2 (by decide) (fun hc => ?_) (fun hc => ?_)
  · have hw := hw.1 hc
    exact zr_vret hk hr hH hz hS hw (Nat.le_of_ble_eq_true rfl) (Nat.le_of_ble_eq_true rfl) dJ11_checkLength_37
  · have hw := hw.2 hc
    exact hw.elim
def wp_J12_checkFromToIndex (l : Launch) (g : zG) (d : Nat) (x0 : Int32) (x1 : Int32) (x2 : Int32) (r3 : Option Nat) (hp : zHp) (nx : Nat) (Post : Int32 → zHp → Nat → Prop) : Prop :=
  ((x0 < 0 →
  False) ∧
  (¬ x0 < 0 →
  ((x1 < x0 →
  False) ∧
  (¬ x1 < x0 →
  ((x1 ≤ x2 →
  (Post x0 hp nx)) ∧
  (¬ x1 ≤ x2 →
  False))))))
set_option maxHeartbeats 40000000 in
theorem met_J12_checkFromToIndex {l : Launch} {g : zG} {d : Nat} {x0 : Int32} {x1 : Int32} {x2 : Int32} {r3 : Option Nat} {hp : zHp} {nx : Nat} {Post : Int32 → zHp → Nat → Prop} (hw : wp_J12_checkFromToIndex l g d x0 x1 x2 r3 hp nx Post) : zMt l g yJ12_checkFromToIndex cJ12_checkFromToIndex 4 (some .int) (d + 1) 0 0 [.int x0, .int x1, .int x2, va_rf r3] hp nx (zQi g Post) := by
  refine z_start (by decide) (by cases r3 <;> exact Nat.le_of_ble_eq_true rfl) ?_
  intro p e s m below meth c hk hr hin hH hz ls hl
  have hx := hk.1.1
  have hb := hk.1.2.1
  have hown := hk.1.2.2.2.1
  have hts := hk.1.2.2.2.2
  have hS : va_S (zAd g) s.heap s.heap [] := va_S.rf
  have hl : lv_has ls 4 [(0, .int x0), (1, .int x1), (2, .int x2), (3, va_rf r3)] := by cases r3 <;> exact hl
  unfold wp_J12_checkFromToIndex at hw
  refine lv_iload_n hx hb dJ12_checkFromToIndex_0 rfl (lv_at hl 0 rfl) ?_
  refine lv_if_lt (tgt := 14) hx hb dJ12_checkFromToIndex_1 (by decide) (fun hc => ?_) (fun hc => ?_)
  · have hw := hw.1 hc
    exact hw.elim
  · have hw := hw.2 hc
    refine lv_iload_n hx hb dJ12_checkFromToIndex_4 rfl (lv_at hl 0 rfl) ?_
    refine lv_iload_n hx hb dJ12_checkFromToIndex_5 rfl (lv_at hl 1 rfl) ?_
    refine lv_icmp_gt (tgt := 14) hx hb dJ12_checkFromToIndex_6 (by decide) (fun hc => ?_) (fun hc => ?_)
    · have hw := hw.1 hc
      exact hw.elim
    · have hw := hw.2 hc
      refine lv_iload_n hx hb dJ12_checkFromToIndex_9 rfl (lv_at hl 1 rfl) ?_
      refine lv_iload_n hx hb dJ12_checkFromToIndex_10 rfl (lv_at hl 2 rfl) ?_
      refine lv_icmp_le (tgt := 22) hx hb dJ12_checkFromToIndex_11 (by decide) (fun hc => ?_) (fun hc => ?_)
      · have hw := hw.1 hc
        refine lv_iload_n hx hb dJ12_checkFromToIndex_22 rfl (lv_at hl 0 rfl) ?_
        exact zr_iret hk hr hH hz hS hw (Nat.le_of_ble_eq_true rfl) (Nat.le_of_ble_eq_true rfl) dJ12_checkFromToIndex_23
      · have hw := hw.2 hc
        exact hw.elim
def wp_J12_checkFromIndexSize (l : Launch) (g : zG) (d : Nat) (x0 : Int32) (x1 : Int32) (x2 : Int32) (r3 : Option Nat) (hp : zHp) (nx : Nat) (Post : Int32 → zHp → Nat → Prop) : Prop :=
  ((((x2 ||| x0) ||| x1) < 0 →
  False) ∧
  (¬ ((x2 ||| x0) ||| x1) < 0 →
  ((x1 ≤ (x2 - x0) →
  (Post x0 hp nx)) ∧
  (¬ x1 ≤ (x2 - x0) →
  False))))
set_option maxHeartbeats 40000000 in
theorem met_J12_checkFromIndexSize {l : Launch} {g : zG} {d : Nat} {x0 : Int32} {x1 : Int32} {x2 : Int32} {r3 : Option Nat} {hp : zHp} {nx : Nat} {Post : Int32 → zHp → Nat → Prop} (hw : wp_J12_checkFromIndexSize l g d x0 x1 x2 r3 hp nx Post) : zMt l g yJ12_checkFromIndexSize cJ12_checkFromIndexSize 4 (some .int) (d + 1) 0 0 [.int x0, .int x1, .int x2, va_rf r3] hp nx (zQi g Post) := by
  refine z_start (by decide) (by cases r3 <;> exact Nat.le_of_ble_eq_true rfl) ?_
  intro p e s m below meth c hk hr hin hH hz ls hl
  have hx := hk.1.1
  have hb := hk.1.2.1
  have hown := hk.1.2.2.2.1
  have hts := hk.1.2.2.2.2
  have hS : va_S (zAd g) s.heap s.heap [] := va_S.rf
  have hl : lv_has ls 4 [(0, .int x0), (1, .int x1), (2, .int x2), (3, va_rf r3)] := by cases r3 <;> exact hl
  unfold wp_J12_checkFromIndexSize at hw
  refine lv_iload_n hx hb dJ12_checkFromIndexSize_0 rfl (lv_at hl 2 rfl) ?_
  refine lv_iload_n hx hb dJ12_checkFromIndexSize_1 rfl (lv_at hl 0 rfl) ?_
  refine lv_ior hx hb dJ12_checkFromIndexSize_2 ?_
  refine lv_iload_n hx hb dJ12_checkFromIndexSize_3 rfl (lv_at hl 1 rfl) ?_
  refine lv_ior hx hb dJ12_checkFromIndexSize_4 ?_
  refine lv_if_lt (tgt := 15) hx hb dJ12_checkFromIndexSize_5 (by decide) (fun hc => ?_) (fun hc => ?_)
  · have hw := hw.1 hc
    exact hw.elim
  · have hw := hw.2 hc
    refine lv_iload_n hx hb dJ12_checkFromIndexSize_8 rfl (lv_at hl 1 rfl) ?_
    refine lv_iload_n hx hb dJ12_checkFromIndexSize_9 rfl (lv_at hl 2 rfl) ?_
    refine lv_iload_n hx hb dJ12_checkFromIndexSize_10 rfl (lv_at hl 0 rfl) ?_
    refine lv_isub hx hb dJ12_checkFromIndexSize_11 ?_
    refine lv_icmp_le (tgt := 23) hx hb dJ12_checkFromIndexSize_12 (by decide) (fun hc => ?_) (fun hc => ?_)
    · have hw := hw.1 hc
      refine lv_iload_n hx hb dJ12_checkFromIndexSize_23 rfl (lv_at hl 0 rfl) ?_
      exact zr_iret hk hr hH hz hS hw (Nat.le_of_ble_eq_true rfl) (Nat.le_of_ble_eq_true rfl) dJ12_checkFromIndexSize_24
    · have hw := hw.2 hc
      exact hw.elim
def wp_J12_checkIndex (l : Launch) (g : zG) (d : Nat) (x0 : Int32) (x1 : Int32) (r2 : Option Nat) (hp : zHp) (nx : Nat) (Post : Int32 → zHp → Nat → Prop) : Prop :=
  ((x0 < 0 →
  False) ∧
  (¬ x0 < 0 →
  ((x0 < x1 →
  (Post x0 hp nx)) ∧
  (¬ x0 < x1 →
  False))))
set_option maxHeartbeats 40000000 in
theorem met_J12_checkIndex {l : Launch} {g : zG} {d : Nat} {x0 : Int32} {x1 : Int32} {r2 : Option Nat} {hp : zHp} {nx : Nat} {Post : Int32 → zHp → Nat → Prop} (hw : wp_J12_checkIndex l g d x0 x1 r2 hp nx Post) : zMt l g yJ12_checkIndex cJ12_checkIndex 3 (some .int) (d + 1) 0 0 [.int x0, .int x1, va_rf r2] hp nx (zQi g Post) := by
  refine z_start (by decide) (by cases r2 <;> exact Nat.le_of_ble_eq_true rfl) ?_
  intro p e s m below meth c hk hr hin hH hz ls hl
  have hx := hk.1.1
  have hb := hk.1.2.1
  have hown := hk.1.2.2.2.1
  have hts := hk.1.2.2.2.2
  have hS : va_S (zAd g) s.heap s.heap [] := va_S.rf
  have hl : lv_has ls 3 [(0, .int x0), (1, .int x1), (2, va_rf r2)] := by cases r2 <;> exact hl
  unfold wp_J12_checkIndex at hw
  refine lv_iload_n hx hb dJ12_checkIndex_0 rfl (lv_at hl 0 rfl) ?_
  refine lv_if_lt (tgt := 9) hx hb dJ12_checkIndex_1 (by decide) (fun hc => ?_) (fun hc => ?_)
  · have hw := hw.1 hc
    exact hw.elim
  · have hw := hw.2 hc
    refine lv_iload_n hx hb dJ12_checkIndex_4 rfl (lv_at hl 0 rfl) ?_
    refine lv_iload_n hx hb dJ12_checkIndex_5 rfl (lv_at hl 1 rfl) ?_
    refine lv_icmp_lt (tgt := 16) hx hb dJ12_checkIndex_6 (by decide) (fun hc => ?_) (fun hc => ?_)
    · have hw := hw.1 hc
      refine lv_iload_n hx hb dJ12_checkIndex_16 rfl (lv_at hl 0 rfl) ?_
      exact zr_iret hk hr hH hz hS hw (Nat.le_of_ble_eq_true rfl) (Nat.le_of_ble_eq_true rfl) dJ12_checkIndex_17
    · have hw := hw.2 hc
      exact hw.elim
def wp_J13_inflate (l : Launch) (g : zG) (d : Nat) (r0 : Option Nat) (x1 : Int32) (r2 : Option Nat) (x3 : Int32) (x4 : Int32) (hp : zHp) (nx : Nat) (Post : zHp → Nat → Prop) : Prop :=
  (zMt l g yJ8_inflate cJ8_inflate 6 none d 0 0 [va_rf r0, .int x1, va_rf r2, .int x3, .int x4] hp nx (zQv g fun hp_1 nx_2 =>
  (Post hp_1 nx_2)))
set_option maxHeartbeats 40000000 in
theorem met_J13_inflate {l : Launch} {g : zG} {d : Nat} {r0 : Option Nat} {x1 : Int32} {r2 : Option Nat} {x3 : Int32} {x4 : Int32} {hp : zHp} {nx : Nat} {Post : zHp → Nat → Prop} (hw : wp_J13_inflate l g d r0 x1 r2 x3 x4 hp nx Post) : zMt l g yJ13_inflate cJ13_inflate 5 none (d + 1) 0 0 [va_rf r0, .int x1, va_rf r2, .int x3, .int x4] hp nx (zQv g Post) := by
  refine z_start (by decide) (by cases r0 <;> cases r2 <;> exact Nat.le_of_ble_eq_true rfl) ?_
  intro p e s m below meth c hk hr hin hH hz ls hl
  have hx := hk.1.1
  have hb := hk.1.2.1
  have hown := hk.1.2.2.2.1
  have hts := hk.1.2.2.2.2
  have hS : va_S (zAd g) s.heap s.heap [] := va_S.rf
  have hl : lv_has ls 5 [(0, va_rf r0), (1, .int x1), (2, va_rf r2), (3, .int x3), (4, .int x4)] := by cases r0 <;> cases r2 <;> exact hl
  unfold wp_J13_inflate at hw
  refine zr_aload_n (r := r0) hx hb dJ13_inflate_0 rfl (lv_at hl 0 rfl) ?_
  refine lv_iload_n hx hb dJ13_inflate_1 rfl (lv_at hl 1 rfl) ?_
  refine zr_aload_n (r := r2) hx hb dJ13_inflate_2 rfl (lv_at hl 2 rfl) ?_
  refine lv_iload_n hx hb dJ13_inflate_3 rfl (lv_at hl 3 rfl) ?_
  refine lv_iload hx hb dJ13_inflate_4 (lv_at hl 4 rfl) ?_
  refine zr_callv (zr_runS (As := [va_rf r0, .int x1, va_rf r2, .int x3, .int x4]) hk hH hz hS hl.1 hw (va_cwS 5 hts (lw_S q489 q490 q141 q491) rfl rfl rfl (by decide +kernel) (z_room (Nat.le_of_ble_eq_true rfl))) rfl rfl (Nat.le_of_ble_eq_true rfl) dJ13_inflate_6 ⟨Nat.le_of_ble_eq_true rfl, Nat.le_of_ble_eq_true rfl⟩) hS (fun hp_1 nx_2 hw H locs hH hz hS => ?_)
  exact zr_vret hk hr hH hz hS hw (Nat.le_of_ble_eq_true rfl) (Nat.le_of_ble_eq_true rfl) dJ13_inflate_9
def wp_J13_equals (l : Launch) (g : zG) (d : Nat) (r0 : Option Nat) (r1 : Option Nat) (hp : zHp) (nx : Nat) (Post : Int32 → zHp → Nat → Prop) : Prop :=
  (zln (g.2.1 2) hp r0 fun x_3 =>
  (zln (g.2.1 2) hp r1 fun x_6 =>
  ((x_3 = x_6 →
  (∃ I_9 : Nat → Int32 → Prop, (∃ n_22, I_9 n_22 (0 : Int32)) ∧ ∀ (n_8 : Nat) (x_7 : Int32), I_9 n_8 x_7 →
  (zln (g.2.1 2) hp r0 fun x_11 =>
  ((x_11 ≤ x_7 →
  (Post (1 : Int32) hp nx)) ∧
  (¬ x_11 ≤ x_7 →
  (zaI (g.2.1 2) hp r0 fun a_12 n_13 f_14 => vp_in x_7 n_13 ∧ ∀ x_15 : Int32, x_15 = f_14 x_7.toNatClampNeg →
  (zaI (g.2.1 2) hp r1 fun a_16 n_17 f_18 => vp_in x_7 n_17 ∧ ∀ x_19 : Int32, x_19 = f_18 x_7.toNatClampNeg →
  ((x_15 = x_19 →
  (∀ x_20 : Int32, x_20 = x_7 + (1 : Int32) →
  (∃ k_21, k_21 < n_8 ∧ I_9 k_21 x_20))) ∧
  (¬ x_15 = x_19 →
  (Post (0 : Int32) hp nx)))))))))) ∧
  (¬ x_3 = x_6 →
  (Post (0 : Int32) hp nx)))))
set_option maxHeartbeats 40000000 in
theorem met_J13_equals {l : Launch} {g : zG} {d : Nat} {r0 : Option Nat} {r1 : Option Nat} {hp : zHp} {nx : Nat} {Post : Int32 → zHp → Nat → Prop} (hw : wp_J13_equals l g d r0 r1 hp nx Post) : zMt l g yJ13_equals cJ13_equals 3 (some .boolean) (d + 1) 0 0 [va_rf r0, va_rf r1] hp nx (zQi g Post) := by
  refine z_start (by decide) (by cases r0 <;> cases r1 <;> exact Nat.le_of_ble_eq_true rfl) ?_
  intro p e s m below meth c hk hr hin hH hz ls hl
  have hx := hk.1.1
  have hb := hk.1.2.1
  have hown := hk.1.2.2.2.1
  have hts := hk.1.2.2.2.2
  have hS : va_S (zAd g) s.heap s.heap [] := va_S.rf
  have hl : lv_has ls 3 [(0, va_rf r0), (1, va_rf r1)] := by cases r0 <;> cases r1 <;> exact hl
  unfold wp_J13_equals at hw
  refine zr_aload_n (r := r0) hx hb dJ13_equals_0 rfl (lv_at hl 0 rfl) ?_
  obtain ⟨a_1, v_2, er, he, hw⟩ := zln_e hw
  refine zw_alen hk hH 2 er he rfl dJ13_equals_1 ?_
  generalize Int32.ofNat v_2.1 = x_3 at hw ⊢
  refine zr_aload_n (r := r1) hx hb dJ13_equals_2 rfl (lv_at hl 1 rfl) ?_
  obtain ⟨a_4, v_5, er, he, hw⟩ := zln_e hw
  refine zw_alen hk hH 2 er he rfl dJ13_equals_3 ?_
  generalize Int32.ofNat v_5.1 = x_6 at hw ⊢
  refine lv_icmp_ne (tgt := 34) hx hb dJ13_equals_4 (by decide) (fun hc => ?_) (fun hc => ?_)
  · have hw := hw.2 hc
    refine lv_iconst (v := (0 : Int32)) hx hb dJ13_equals_34 (by decide) ?_
    exact zr_zret hk hr hH hz hS (Or.inl rfl) hw (Nat.le_of_ble_eq_true rfl) (Nat.le_of_ble_eq_true rfl) dJ13_equals_35
  · have hw := hw.1 hc
    refine lv_iconst (v := (0 : Int32)) hx hb dJ13_equals_7 (by decide) ?_
    refine lv_istore_n (i := 2) (lv' := [(2, .int (0 : Int32)), (0, va_rf r0), (1, va_rf r1)]) hx hb dJ13_equals_8 rfl hl (by decide) (by first | rfl | simp [List.filter_cons, z_cat, z_catI, z_catJ, z_catF, z_catD]) (fun ls hl => ?_)
    obtain ⟨I_9, ⟨n_22, hI⟩, hB_9⟩ := hw
    have hL_9 : ∀ (n_8 : Nat) (x_7 : Int32) (H : Heap) (locs : List Loc) (ls : Array Slot), I_9 n_8 x_7 → lv_has ls 3 [(0, va_rf r0), (1, va_rf r1), (2, .int x_7)] → zHd g hp H → H.size = nx → va_S (zAd g) s.heap H locs → W p l e (zrm (d + 1) 0 0) s m ([va_rf r0, va_rf r1] : List Value).toArray below meth c H locs 0 0 (MQ below (zQi g Post) ([va_rf r0, va_rf r1] : List Value).toArray s 0 0 (zAd g)) (F0 m 9 ls []) := by
      intro n_8
      induction n_8 using Nat.strongRecOn with
      | _ n_8 ih_9 =>
        intro x_7 H locs ls hw hl hH hz hS
        have hw := hB_9 n_8 x_7 hw
        refine lv_iload_n hx hb dJ13_equals_9 rfl (lv_at hl 2 rfl) ?_
        refine zr_aload_n (r := r0) hx hb dJ13_equals_10 rfl (lv_at hl 0 rfl) ?_
        obtain ⟨a_9, v_10, er, he, hw⟩ := zln_e hw
        refine zw_alen hk hH 2 er he rfl dJ13_equals_11 ?_
        generalize Int32.ofNat v_10.1 = x_11 at hw ⊢
        refine lv_icmp_ge (tgt := 32) hx hb dJ13_equals_12 (by decide) (fun hc => ?_) (fun hc => ?_)
        · have hw := hw.1 hc
          refine lv_iconst (v := (1 : Int32)) hx hb dJ13_equals_32 (by decide) ?_
          exact zr_zret hk hr hH hz hS (Or.inr rfl) hw (Nat.le_of_ble_eq_true rfl) (Nat.le_of_ble_eq_true rfl) dJ13_equals_33
        · have hw := hw.2 hc
          refine zr_aload_n (r := r0) hx hb dJ13_equals_15 rfl (lv_at hl 0 rfl) ?_
          refine lv_iload_n hx hb dJ13_equals_16 rfl (lv_at hl 2 rfl) ?_
          obtain ⟨a_12, n_13, f_14, er, he, hi, hw⟩ := zaI_e hw
          have hw := hw _ rfl
          refine zw_bald hk hH er he hi dJ13_equals_17 ?_
          generalize f_14 x_7.toNatClampNeg = x_15 at hw ⊢
          refine zr_aload_n (r := r1) hx hb dJ13_equals_18 rfl (lv_at hl 1 rfl) ?_
          refine lv_iload_n hx hb dJ13_equals_19 rfl (lv_at hl 2 rfl) ?_
          obtain ⟨a_16, n_17, f_18, er, he, hi, hw⟩ := zaI_e hw
          have hw := hw _ rfl
          refine zw_bald hk hH er he hi dJ13_equals_20 ?_
          generalize f_18 x_7.toNatClampNeg = x_19 at hw ⊢
          refine lv_icmp_eq (tgt := 26) hx hb dJ13_equals_21 (by decide) (fun hc => ?_) (fun hc => ?_)
          · have hw := hw.1 hc
            obtain ⟨x_20, ex_20⟩ : ∃ y : Int32, y = x_7 + (1 : Int32) := ⟨_, rfl⟩
            have hw := hw x_20 ex_20
            refine lv_iinc (v := x_20) (lv' := [(2, .int x_20), (0, va_rf r0), (1, va_rf r1)]) hx hb dJ13_equals_26 hl (k := 2) rfl (by rw [ex_20]; rfl) (by decide) (by first | rfl | simp [List.filter_cons, z_cat, z_catI, z_catJ, z_catF, z_catD]) (fun ls hl => ?_)
            refine lv_goto (tgt := 9) hx hb dJ13_equals_29 (by decide) ?_
            obtain ⟨k_21, hlt, hw⟩ := hw
            exact ih_9 k_21 hlt x_20 _ _ _ hw (lv_sub hl [1, 2, 0] rfl) hH hz hS
          · have hw := hw.2 hc
            refine lv_iconst (v := (0 : Int32)) hx hb dJ13_equals_24 (by decide) ?_
            exact zr_zret hk hr hH hz hS (Or.inl rfl) hw (Nat.le_of_ble_eq_true rfl) (Nat.le_of_ble_eq_true rfl) dJ13_equals_25
    exact hL_9 n_22 (0 : Int32) _ _ _ hI (lv_sub hl [1, 2, 0] rfl) hH hz hS
def wp_J13_canEncode (l : Launch) (g : zG) (d : Nat) (x0 : Int32) (hp : zHp) (nx : Nat) (Post : Int32 → zHp → Nat → Prop) : Prop :=
  (∃ P_12 : Int32 → Prop, (∀ (x_1 : Int32), P_12 x_1 →
  (((x_1 = 0 ∨ x_1 = 1) ∧ Post x_1 hp nx))) ∧
  (((255 : Int32) < x0 →
  P_12 (0 : Int32)) ∧
  (¬ (255 : Int32) < x0 →
  P_12 (1 : Int32))))
set_option maxHeartbeats 40000000 in
theorem met_J13_canEncode {l : Launch} {g : zG} {d : Nat} {x0 : Int32} {hp : zHp} {nx : Nat} {Post : Int32 → zHp → Nat → Prop} (hw : wp_J13_canEncode l g d x0 hp nx Post) : zMt l g yJ13_canEncode cJ13_canEncode 1 (some .boolean) (d + 1) 0 0 [.int x0] hp nx (zQi g Post) := by
  refine z_start (by decide) (Nat.le_of_ble_eq_true rfl) ?_
  intro p e s m below meth c hk hr hin hH hz ls hl
  have hx := hk.1.1
  have hb := hk.1.2.1
  have hown := hk.1.2.2.2.1
  have hts := hk.1.2.2.2.2
  have hS : va_S (zAd g) s.heap s.heap [] := va_S.rf
  have hl : lv_has ls 1 [(0, .int x0)] := hl
  unfold wp_J13_canEncode at hw
  refine lv_iload_n hx hb dJ13_canEncode_0 rfl (lv_at hl 0 rfl) ?_
  refine lv_sipush (v := (255 : Int32)) hx hb dJ13_canEncode_1 (by decide) ?_
  obtain ⟨P_12, hP_12, hw⟩ := hw
  have hJ_12 : ∀ (x_1 : Int32) (H : Heap) (locs : List Loc) (ls : Array Slot), P_12 x_1 → lv_has ls 1 [(0, .int x0)] → zHd g hp H → H.size = nx → va_S (zAd g) s.heap H locs → W p l e (zrm (d + 1) 0 0) s m ([.int x0] : List Value).toArray below meth c H locs 0 0 (MQ below (zQi g Post) ([.int x0] : List Value).toArray s 0 0 (zAd g)) (F0 m 12 ls [.int x_1]) := by
    intro x_1 H locs ls hw hl hH hz hS
    have hw := hP_12 x_1 hw
    exact zr_zret hk hr hH hz hS hw.1 hw.2 (Nat.le_of_ble_eq_true rfl) (Nat.le_of_ble_eq_true rfl) dJ13_canEncode_12
  refine lv_icmp_gt (tgt := 11) hx hb dJ13_canEncode_4 (by decide) (fun hc => ?_) (fun hc => ?_)
  · have hw := hw.1 hc
    refine lv_iconst (v := (0 : Int32)) hx hb dJ13_canEncode_11 (by decide) ?_
    exact hJ_12 (0 : Int32) _ _ _ hw hl hH hz hS
  · have hw := hw.2 hc
    refine lv_iconst (v := (1 : Int32)) hx hb dJ13_canEncode_7 (by decide) ?_
    refine lv_goto (tgt := 12) hx hb dJ13_canEncode_8 (by decide) ?_
    exact hJ_12 (1 : Int32) _ _ _ hw hl hH hz hS
def wp_J13_indexOf (l : Launch) (g : zG) (d : Nat) (r0 : Option Nat) (x1 : Int32) (x2 : Int32) (x3 : Int32) (hp : zHp) (nx : Nat) (Post : Int32 → zHp → Nat → Prop) : Prop :=
  (zMt l g yJ13_canEncode_2 cJ13_canEncode_2 1 (some .boolean) d 0 0 [.int x1] hp nx (zQi g fun x_3 hp_1 nx_2 =>
  ((x_3 = 0 →
  (Post (-1 : Int32) hp_1 nx_2)) ∧
  (¬ x_3 = 0 →
  (zMt l g yJ10_max cJ10_max 2 (some .int) d 0 0 [.int x2, .int (0 : Int32)] hp_1 nx_2 (zQi g fun x_6 hp_4 nx_5 =>
  (zln (g.2.1 2) hp_4 r0 fun x_9 =>
  (zMt l g yJ10_min cJ10_min 2 (some .int) d 0 0 [.int x3, .int x_9] hp_4 nx_5 (zQi g fun x_12 hp_10 nx_11 =>
  ((x_6 < x_12 →
  (zMt l g yJ13_indexOfChar cJ13_indexOfChar 6 (some .int) d 0 0 [va_rf r0, .int x1, .int x_6, .int x_12] hp_10 nx_11 (zQi g fun x_15 hp_13 nx_14 =>
  (Post x_15 hp_13 nx_14)))) ∧
  (¬ x_6 < x_12 →
  (Post (-1 : Int32) hp_10 nx_11))))))))))))
set_option maxHeartbeats 40000000 in
theorem met_J13_indexOf {l : Launch} {g : zG} {d : Nat} {r0 : Option Nat} {x1 : Int32} {x2 : Int32} {x3 : Int32} {hp : zHp} {nx : Nat} {Post : Int32 → zHp → Nat → Prop} (hw : wp_J13_indexOf l g d r0 x1 x2 x3 hp nx Post) : zMt l g yJ13_indexOf cJ13_indexOf 4 (some .int) (d + 1) 0 0 [va_rf r0, .int x1, .int x2, .int x3] hp nx (zQi g Post) := by
  refine z_start (by decide) (by cases r0 <;> exact Nat.le_of_ble_eq_true rfl) ?_
  intro p e s m below meth c hk hr hin hH hz ls hl
  have hx := hk.1.1
  have hb := hk.1.2.1
  have hown := hk.1.2.2.2.1
  have hts := hk.1.2.2.2.2
  have hS : va_S (zAd g) s.heap s.heap [] := va_S.rf
  have hl : lv_has ls 4 [(0, va_rf r0), (1, .int x1), (2, .int x2), (3, .int x3)] := by cases r0 <;> exact hl
  unfold wp_J13_indexOf at hw
  refine lv_iload_n hx hb dJ13_indexOf_0 rfl (lv_at hl 1 rfl) ?_
  refine zr_calli (zr_runS (As := [.int x1]) hk hH hz hS hl.1 hw (va_cwS 1 hts (lw_S q1489 q1490 q147 q1491) rfl rfl rfl (by decide +kernel) (z_room (Nat.le_of_ble_eq_true rfl))) rfl rfl (Nat.le_of_ble_eq_true rfl) dJ13_indexOf_1 ⟨Nat.le_of_ble_eq_true rfl, Nat.le_of_ble_eq_true rfl⟩) hS (fun x_3 hp_1 nx_2 hw H locs hH hz hS => ?_)
  refine lv_if_ne (tgt := 9) hx hb dJ13_indexOf_4 (by decide) (fun hc => ?_) (fun hc => ?_)
  · have hw := hw.2 hc
    refine lv_iload_n hx hb dJ13_indexOf_9 rfl (lv_at hl 2 rfl) ?_
    refine lv_iconst (v := (0 : Int32)) hx hb dJ13_indexOf_10 (by decide) ?_
    refine zr_calli (zr_runS (As := [.int x2, .int (0 : Int32)]) hk hH hz hS hl.1 hw (va_cwS 2 hts (lw_S q1492 q410 q143 q411) rfl rfl rfl (by decide +kernel) (z_room (Nat.le_of_ble_eq_true rfl))) rfl rfl (Nat.le_of_ble_eq_true rfl) dJ13_indexOf_11 ⟨Nat.le_of_ble_eq_true rfl, Nat.le_of_ble_eq_true rfl⟩) hS (fun x_6 hp_4 nx_5 hw H locs hH hz hS => ?_)
    refine lv_istore_n (i := 2) (lv' := [(2, .int x_6), (0, va_rf r0), (1, .int x1), (3, .int x3)]) hx hb dJ13_indexOf_14 rfl hl (by decide) (by first | rfl | simp [List.filter_cons, z_cat, z_catI, z_catJ, z_catF, z_catD]) (fun ls hl => ?_)
    refine lv_iload_n hx hb dJ13_indexOf_15 rfl (lv_at hl 3 rfl) ?_
    refine zr_aload_n (r := r0) hx hb dJ13_indexOf_16 rfl (lv_at hl 1 rfl) ?_
    obtain ⟨a_7, v_8, er, he, hw⟩ := zln_e hw
    refine zw_alen hk hH 2 er he rfl dJ13_indexOf_17 ?_
    generalize Int32.ofNat v_8.1 = x_9 at hw ⊢
    refine zr_calli (zr_runS (As := [.int x3, .int x_9]) hk hH hz hS hl.1 hw (va_cwS 2 hts (lw_S q1493 q428 q143 q429) rfl rfl rfl (by decide +kernel) (z_room (Nat.le_of_ble_eq_true rfl))) rfl rfl (Nat.le_of_ble_eq_true rfl) dJ13_indexOf_18 ⟨Nat.le_of_ble_eq_true rfl, Nat.le_of_ble_eq_true rfl⟩) hS (fun x_12 hp_10 nx_11 hw H locs hH hz hS => ?_)
    refine lv_istore_n (i := 3) (lv' := [(3, .int x_12), (2, .int x_6), (0, va_rf r0), (1, .int x1)]) hx hb dJ13_indexOf_21 rfl hl (by decide) (by first | rfl | simp [List.filter_cons, z_cat, z_catI, z_catJ, z_catF, z_catD]) (fun ls hl => ?_)
    refine lv_iload_n hx hb dJ13_indexOf_22 rfl (lv_at hl 1 rfl) ?_
    refine lv_iload_n hx hb dJ13_indexOf_23 rfl (lv_at hl 0 rfl) ?_
    refine lv_icmp_lt (tgt := 29) hx hb dJ13_indexOf_24 (by decide) (fun hc => ?_) (fun hc => ?_)
    · have hw := hw.1 hc
      refine zr_aload_n (r := r0) hx hb dJ13_indexOf_29 rfl (lv_at hl 2 rfl) ?_
      refine lv_iload_n hx hb dJ13_indexOf_30 rfl (lv_at hl 3 rfl) ?_
      refine lv_iload_n hx hb dJ13_indexOf_31 rfl (lv_at hl 1 rfl) ?_
      refine lv_iload_n hx hb dJ13_indexOf_32 rfl (lv_at hl 0 rfl) ?_
      refine zr_calli (zr_runS (As := [va_rf r0, .int x1, .int x_6, .int x_12]) hk hH hz hS hl.1 hw (va_cwS 4 hts (lw_S q1494 q1495 q147 q1496) rfl rfl rfl (by decide +kernel) (z_room (Nat.le_of_ble_eq_true rfl))) rfl rfl (Nat.le_of_ble_eq_true rfl) dJ13_indexOf_33 ⟨Nat.le_of_ble_eq_true rfl, Nat.le_of_ble_eq_true rfl⟩) hS (fun x_15 hp_13 nx_14 hw H locs hH hz hS => ?_)
      exact zr_iret hk hr hH hz hS hw (Nat.le_of_ble_eq_true rfl) (Nat.le_of_ble_eq_true rfl) dJ13_indexOf_36
    · have hw := hw.2 hc
      refine lv_iconst (v := (-1 : Int32)) hx hb dJ13_indexOf_27 (by decide) ?_
      exact zr_iret hk hr hH hz hS hw (Nat.le_of_ble_eq_true rfl) (Nat.le_of_ble_eq_true rfl) dJ13_indexOf_28
  · have hw := hw.1 hc
    refine lv_iconst (v := (-1 : Int32)) hx hb dJ13_indexOf_7 (by decide) ?_
    exact zr_iret hk hr hH hz hS hw (Nat.le_of_ble_eq_true rfl) (Nat.le_of_ble_eq_true rfl) dJ13_indexOf_8
def wp_J13_canEncode_2 (l : Launch) (g : zG) (d : Nat) (x0 : Int32) (hp : zHp) (nx : Nat) (Post : Int32 → zHp → Nat → Prop) : Prop :=
  (∃ P_16 : Int32 → Prop, (∀ (x_1 : Int32), P_16 x_1 →
  (((x_1 = 0 ∨ x_1 = 1) ∧ Post x_1 hp nx))) ∧
  (∃ P_15 : Prop, (P_15 →
  P_16 (0 : Int32)) ∧
  ((x0 < 0 →
  P_15) ∧
  (¬ x0 < 0 →
  (((255 : Int32) < x0 →
  P_15) ∧
  (¬ (255 : Int32) < x0 →
  P_16 (1 : Int32)))))))
set_option maxHeartbeats 40000000 in
theorem met_J13_canEncode_2 {l : Launch} {g : zG} {d : Nat} {x0 : Int32} {hp : zHp} {nx : Nat} {Post : Int32 → zHp → Nat → Prop} (hw : wp_J13_canEncode_2 l g d x0 hp nx Post) : zMt l g yJ13_canEncode_2 cJ13_canEncode_2 1 (some .boolean) (d + 1) 0 0 [.int x0] hp nx (zQi g Post) := by
  refine z_start (by decide) (Nat.le_of_ble_eq_true rfl) ?_
  intro p e s m below meth c hk hr hin hH hz ls hl
  have hx := hk.1.1
  have hb := hk.1.2.1
  have hown := hk.1.2.2.2.1
  have hts := hk.1.2.2.2.2
  have hS : va_S (zAd g) s.heap s.heap [] := va_S.rf
  have hl : lv_has ls 1 [(0, .int x0)] := hl
  unfold wp_J13_canEncode_2 at hw
  refine lv_iload_n hx hb dJ13_canEncode_2_0 rfl (lv_at hl 0 rfl) ?_
  obtain ⟨P_16, hP_16, hw⟩ := hw
  have hJ_16 : ∀ (x_1 : Int32) (H : Heap) (locs : List Loc) (ls : Array Slot), P_16 x_1 → lv_has ls 1 [(0, .int x0)] → zHd g hp H → H.size = nx → va_S (zAd g) s.heap H locs → W p l e (zrm (d + 1) 0 0) s m ([.int x0] : List Value).toArray below meth c H locs 0 0 (MQ below (zQi g Post) ([.int x0] : List Value).toArray s 0 0 (zAd g)) (F0 m 16 ls [.int x_1]) := by
    intro x_1 H locs ls hw hl hH hz hS
    have hw := hP_16 x_1 hw
    exact zr_zret hk hr hH hz hS hw.1 hw.2 (Nat.le_of_ble_eq_true rfl) (Nat.le_of_ble_eq_true rfl) dJ13_canEncode_2_16
  obtain ⟨P_15, hP_15, hw⟩ := hw
  have hJ_15 : ∀  (H : Heap) (locs : List Loc) (ls : Array Slot), P_15  → lv_has ls 1 [(0, .int x0)] → zHd g hp H → H.size = nx → va_S (zAd g) s.heap H locs → W p l e (zrm (d + 1) 0 0) s m ([.int x0] : List Value).toArray below meth c H locs 0 0 (MQ below (zQi g Post) ([.int x0] : List Value).toArray s 0 0 (zAd g)) (F0 m 15 ls []) := by
    intro  H locs ls hw hl hH hz hS
    have hw := hP_15  hw
    refine lv_iconst (v := (0 : Int32)) hx hb dJ13_canEncode_2_15 (by decide) ?_
    exact hJ_16 (0 : Int32) _ _ _ hw hl hH hz hS
  refine lv_if_lt (tgt := 15) hx hb dJ13_canEncode_2_1 (by decide) (fun hc => ?_) (fun hc => ?_)
  · have hw := hw.1 hc
    exact hJ_15  _ _ _ hw hl hH hz hS
  · have hw := hw.2 hc
    refine lv_iload_n hx hb dJ13_canEncode_2_4 rfl (lv_at hl 0 rfl) ?_
    refine lv_sipush (v := (255 : Int32)) hx hb dJ13_canEncode_2_5 (by decide) ?_
    refine lv_icmp_gt (tgt := 15) hx hb dJ13_canEncode_2_8 (by decide) (fun hc => ?_) (fun hc => ?_)
    · have hw := hw.1 hc
      exact hJ_15  _ _ _ hw hl hH hz hS
    · have hw := hw.2 hc
      refine lv_iconst (v := (1 : Int32)) hx hb dJ13_canEncode_2_11 (by decide) ?_
      refine lv_goto (tgt := 16) hx hb dJ13_canEncode_2_12 (by decide) ?_
      exact hJ_16 (1 : Int32) _ _ _ hw hl hH hz hS
def wp_J13_indexOfChar (l : Launch) (g : zG) (d : Nat) (r0 : Option Nat) (x1 : Int32) (x2 : Int32) (x3 : Int32) (hp : zHp) (nx : Nat) (Post : Int32 → zHp → Nat → Prop) : Prop :=
  (∀ x_1 : Int32, x_1 = x1.toInt8.toInt32 →
  (∃ I_7 : Nat → Int32 → Int32 → Prop, (∃ n_11, I_7 n_11 x_1 x2) ∧ ∀ (n_4 : Nat) (x_2 : Int32) (x_3 : Int32), I_7 n_4 x_2 x_3 →
  ((x3 ≤ x_3 →
  (Post (-1 : Int32) hp nx)) ∧
  (¬ x3 ≤ x_3 →
  (zaI (g.2.1 2) hp r0 fun a_5 n_6 f_7 => vp_in x_3 n_6 ∧ ∀ x_8 : Int32, x_8 = f_7 x_3.toNatClampNeg →
  ((x_8 = x_2 →
  (Post x_3 hp nx)) ∧
  (¬ x_8 = x_2 →
  (∀ x_9 : Int32, x_9 = x_3 + (1 : Int32) →
  (∃ k_10, k_10 < n_4 ∧ I_7 k_10 x_2 x_9)))))))))
set_option maxHeartbeats 40000000 in
theorem met_J13_indexOfChar {l : Launch} {g : zG} {d : Nat} {r0 : Option Nat} {x1 : Int32} {x2 : Int32} {x3 : Int32} {hp : zHp} {nx : Nat} {Post : Int32 → zHp → Nat → Prop} (hw : wp_J13_indexOfChar l g d r0 x1 x2 x3 hp nx Post) : zMt l g yJ13_indexOfChar cJ13_indexOfChar 6 (some .int) (d + 1) 0 0 [va_rf r0, .int x1, .int x2, .int x3] hp nx (zQi g Post) := by
  refine z_start (by decide) (by cases r0 <;> exact Nat.le_of_ble_eq_true rfl) ?_
  intro p e s m below meth c hk hr hin hH hz ls hl
  have hx := hk.1.1
  have hb := hk.1.2.1
  have hown := hk.1.2.2.2.1
  have hts := hk.1.2.2.2.2
  have hS : va_S (zAd g) s.heap s.heap [] := va_S.rf
  have hl : lv_has ls 6 [(0, va_rf r0), (1, .int x1), (2, .int x2), (3, .int x3)] := by cases r0 <;> exact hl
  unfold wp_J13_indexOfChar at hw
  refine lv_iload_n hx hb dJ13_indexOfChar_0 rfl (lv_at hl 1 rfl) ?_
  refine lv_i2b hx hb dJ13_indexOfChar_1 rfl ?_
  refine lv_topi (fun x_1 ex_1 => ?_)
  have hw := hw x_1 ex_1
  refine lv_istore (lv' := [(4, .int x_1), (0, va_rf r0), (1, .int x1), (2, .int x2), (3, .int x3)]) hx hb dJ13_indexOfChar_2 hl (by decide) (by first | rfl | simp [List.filter_cons, z_cat, z_catI, z_catJ, z_catF, z_catD]) (fun ls hl => ?_)
  refine lv_iload_n hx hb dJ13_indexOfChar_4 rfl (lv_at hl 3 rfl) ?_
  refine lv_istore (lv' := [(5, .int x2), (4, .int x_1), (0, va_rf r0), (1, .int x1), (2, .int x2), (3, .int x3)]) hx hb dJ13_indexOfChar_5 hl (by decide) (by first | rfl | simp [List.filter_cons, z_cat, z_catI, z_catJ, z_catF, z_catD]) (fun ls hl => ?_)
  obtain ⟨I_7, ⟨n_11, hI⟩, hB_7⟩ := hw
  have hL_7 : ∀ (n_4 : Nat) (x_2 : Int32) (x_3 : Int32) (H : Heap) (locs : List Loc) (ls : Array Slot), I_7 n_4 x_2 x_3 → lv_has ls 6 [(0, va_rf r0), (1, .int x1), (2, .int x2), (3, .int x3), (4, .int x_2), (5, .int x_3)] → zHd g hp H → H.size = nx → va_S (zAd g) s.heap H locs → W p l e (zrm (d + 1) 0 0) s m ([va_rf r0, .int x1, .int x2, .int x3] : List Value).toArray below meth c H locs 0 0 (MQ below (zQi g Post) ([va_rf r0, .int x1, .int x2, .int x3] : List Value).toArray s 0 0 (zAd g)) (F0 m 7 ls []) := by
    intro n_4
    induction n_4 using Nat.strongRecOn with
    | _ n_4 ih_7 =>
      intro x_2 x_3 H locs ls hw hl hH hz hS
      have hw := hB_7 n_4 x_2 x_3 hw
      refine lv_iload hx hb dJ13_indexOfChar_7 (lv_at hl 5 rfl) ?_
      refine lv_iload_n hx hb dJ13_indexOfChar_9 rfl (lv_at hl 3 rfl) ?_
      refine lv_icmp_ge (tgt := 31) hx hb dJ13_indexOfChar_10 (by decide) (fun hc => ?_) (fun hc => ?_)
      · have hw := hw.1 hc
        refine lv_iconst (v := (-1 : Int32)) hx hb dJ13_indexOfChar_31 (by decide) ?_
        exact zr_iret hk hr hH hz hS hw (Nat.le_of_ble_eq_true rfl) (Nat.le_of_ble_eq_true rfl) dJ13_indexOfChar_32
      · have hw := hw.2 hc
        refine zr_aload_n (r := r0) hx hb dJ13_indexOfChar_13 rfl (lv_at hl 0 rfl) ?_
        refine lv_iload hx hb dJ13_indexOfChar_14 (lv_at hl 5 rfl) ?_
        obtain ⟨a_5, n_6, f_7, er, he, hi, hw⟩ := zaI_e hw
        have hw := hw _ rfl
        refine zw_bald hk hH er he hi dJ13_indexOfChar_16 ?_
        generalize f_7 x_3.toNatClampNeg = x_8 at hw ⊢
        refine lv_iload hx hb dJ13_indexOfChar_17 (lv_at hl 4 rfl) ?_
        refine lv_icmp_ne (tgt := 25) hx hb dJ13_indexOfChar_19 (by decide) (fun hc => ?_) (fun hc => ?_)
        · have hw := hw.2 hc
          obtain ⟨x_9, ex_9⟩ : ∃ y : Int32, y = x_3 + (1 : Int32) := ⟨_, rfl⟩
          have hw := hw x_9 ex_9
          refine lv_iinc (v := x_9) (lv' := [(5, .int x_9), (0, va_rf r0), (1, .int x1), (2, .int x2), (3, .int x3), (4, .int x_2)]) hx hb dJ13_indexOfChar_25 hl (k := 5) rfl (by rw [ex_9]; rfl) (by decide) (by first | rfl | simp [List.filter_cons, z_cat, z_catI, z_catJ, z_catF, z_catD]) (fun ls hl => ?_)
          refine lv_goto (tgt := 7) hx hb dJ13_indexOfChar_28 (by decide) ?_
          obtain ⟨k_10, hlt, hw⟩ := hw
          exact ih_7 k_10 hlt x_2 x_9 _ _ _ hw (lv_sub hl [1, 2, 3, 4, 5, 0] rfl) hH hz hS
        · have hw := hw.1 hc
          refine lv_iload hx hb dJ13_indexOfChar_22 (lv_at hl 5 rfl) ?_
          exact zr_iret hk hr hH hz hS hw (Nat.le_of_ble_eq_true rfl) (Nat.le_of_ble_eq_true rfl) dJ13_indexOfChar_24
  exact hL_7 n_11 x_1 x2 _ _ _ hI (lv_sub hl [2, 3, 4, 5, 1, 0] rfl) hH hz hS
def wp_J13_hashCode (l : Launch) (g : zG) (d : Nat) (mc ms : Nat) (r0 : Option Nat) (hp : zHp) (nx : Nat) (Post : Int32 → zHp → Nat → Prop) : Prop :=
  (zln (g.2.1 2) hp r0 fun x_3 =>
  (∃ P_51 : Int32 → zHp → Nat → Nat → Nat → Prop, (∀ (x_4 : Int32) (hp_5 : zHp) (nx_6 : Nat) (kc_7 : Nat) (ks_8 : Nat), P_51 x_4 hp_5 nx_6 kc_7 ks_8 →
  (kc_7 ≤ mc ∧ ks_8 ≤ ms ∧ Post x_4 hp_5 nx_6)) ∧
  ((x_3 = (0 : Int32) →
  P_51 (0 : Int32) hp nx 0 0) ∧
  (x_3 = (1 : Int32) →
  (zaI (g.2.1 2) hp r0 fun a_9 n_10 f_11 => vp_in (0 : Int32) n_10 ∧ ∀ x_12 : Int32, x_12 = f_11 (0 : Int32).toNatClampNeg →
  P_51 (x_12 &&& (255 : Int32)) hp nx 0 0)) ∧
  (¬ x_3 = (0 : Int32) ∧ ¬ x_3 = (1 : Int32) →
  (zln (g.2.1 2) hp r0 fun x_15 =>
  (∃ c_16 s_17 : Nat, 0 + c_16 ≤ mc ∧ 0 + s_17 ≤ ms ∧ zMt l g yJ9_vectorizedHashCode cJ9_vectorizedHashCode 5 (some .int) d c_16 s_17 [va_rf r0, .int (0 : Int32), .int x_15, .int (0 : Int32), .int (4 : Int32)] hp nx (zQi g fun x_20 hp_18 nx_19 =>
  P_51 x_20 hp_18 nx_19 (0 + c_16) (0 + s_17))))))))
set_option maxHeartbeats 40000000 in
theorem met_J13_hashCode {l : Launch} {g : zG} {d : Nat} {mc ms : Nat} {r0 : Option Nat} {hp : zHp} {nx : Nat} {Post : Int32 → zHp → Nat → Prop} (hw : wp_J13_hashCode l g d mc ms r0 hp nx Post) : zMt l g yJ13_hashCode cJ13_hashCode 1 (some .int) (d + 1) mc ms [va_rf r0] hp nx (zQi g Post) := by
  refine z_start (by decide) (by cases r0 <;> exact Nat.le_of_ble_eq_true rfl) ?_
  intro p e s m below meth c hk hr hin hH hz ls hl
  have hx := hk.1.1
  have hb := hk.1.2.1
  have hown := hk.1.2.2.2.1
  have hts := hk.1.2.2.2.2
  have hS : va_S (zAd g) s.heap s.heap [] := va_S.rf
  have hl : lv_has ls 1 [(0, va_rf r0)] := by cases r0 <;> exact hl
  unfold wp_J13_hashCode at hw
  refine zr_aload_n (r := r0) hx hb dJ13_hashCode_0 rfl (lv_at hl 0 rfl) ?_
  obtain ⟨a_1, v_2, er, he, hw⟩ := zln_e hw
  refine zw_alen hk hH 2 er he rfl dJ13_hashCode_1 ?_
  generalize Int32.ofNat v_2.1 = x_3 at hw ⊢
  obtain ⟨P_51, hP_51, hw⟩ := hw
  have hJ_51 : ∀ (x_4 : Int32) (hp_5 : zHp) (nx_6 : Nat) (kc_7 : Nat) (ks_8 : Nat) (H : Heap) (locs : List Loc) (ls : Array Slot), P_51 x_4 hp_5 nx_6 kc_7 ks_8 → lv_has ls 1 [(0, va_rf r0)] → zHd g hp_5 H → H.size = nx_6 → va_S (zAd g) s.heap H locs → W p l e (zrm (d + 1) mc ms) s m ([va_rf r0] : List Value).toArray below meth c H locs kc_7 ks_8 (MQ below (zQi g Post) ([va_rf r0] : List Value).toArray s mc ms (zAd g)) (F0 m 51 ls [.int x_4]) := by
    intro x_4 hp_5 nx_6 kc_7 ks_8 H locs ls hw hl hH hz hS
    have hw := hP_51 x_4 hp_5 nx_6 kc_7 ks_8 hw
    obtain ⟨hkc, hks, hw⟩ := hw
    exact zr_iret hk hr hH hz hS hw hkc hks dJ13_hashCode_51
  by_cases hc0 : x_3 = (0 : Int32)
  · have hw := hw.1 hc0
    refine lv_lookup (tgt := 28) hx hb dJ13_hashCode_2 (by decide) (by first | (rw [hc0]; done) | (rw [hc0]; rfl)) (by decide) ?_
    refine lv_iconst (v := (0 : Int32)) hx hb dJ13_hashCode_28 (by decide) ?_
    refine lv_goto (tgt := 51) hx hb dJ13_hashCode_29 (by decide) ?_
    exact hJ_51 (0 : Int32) hp nx 0 0 _ _ _ hw hl hH hz hS
  by_cases hc1 : x_3 = (1 : Int32)
  · have hw := hw.2.1 hc1
    refine lv_lookup (tgt := 32) hx hb dJ13_hashCode_2 (by decide) (by first | (rw [hc1]; done) | (rw [hc1]; rfl)) (by decide) ?_
    refine zr_aload_n (r := r0) hx hb dJ13_hashCode_32 rfl (lv_at hl 0 rfl) ?_
    refine lv_iconst (v := (0 : Int32)) hx hb dJ13_hashCode_33 (by decide) ?_
    obtain ⟨a_9, n_10, f_11, er, he, hi, hw⟩ := zaI_e hw
    have hw := hw _ rfl
    refine zw_bald hk hH er he hi dJ13_hashCode_34 ?_
    generalize f_11 (0 : Int32).toNatClampNeg = x_12 at hw ⊢
    refine lv_sipush (v := (255 : Int32)) hx hb dJ13_hashCode_35 (by decide) ?_
    refine lv_iand hx hb dJ13_hashCode_38 ?_
    refine lv_goto (tgt := 51) hx hb dJ13_hashCode_39 (by decide) ?_
    exact hJ_51 (x_12 &&& (255 : Int32)) hp nx 0 0 _ _ _ hw hl hH hz hS
  have hw := hw.2.2 ⟨hc0, hc1⟩
  refine lv_lookup (tgt := 42) (off := 40) hx hb dJ13_hashCode_2 (by decide) (by refine (lv_osw hc0 (by decide)).trans ?_; refine (lv_osw hc1 (by decide)).trans ?_; rfl) (by decide) ?_
  refine zr_aload_n (r := r0) hx hb dJ13_hashCode_42 rfl (lv_at hl 0 rfl) ?_
  refine lv_iconst (v := (0 : Int32)) hx hb dJ13_hashCode_43 (by decide) ?_
  refine zr_aload_n (r := r0) hx hb dJ13_hashCode_44 rfl (lv_at hl 0 rfl) ?_
  obtain ⟨a_13, v_14, er, he, hw⟩ := zln_e hw
  refine zw_alen hk hH 2 er he rfl dJ13_hashCode_45 ?_
  generalize Int32.ofNat v_14.1 = x_15 at hw ⊢
  refine lv_iconst (v := (0 : Int32)) hx hb dJ13_hashCode_46 (by decide) ?_
  refine lv_iconst (v := (4 : Int32)) hx hb dJ13_hashCode_47 (by decide) ?_
  obtain ⟨c_16, s_17, hcl, hsl, hw⟩ := hw
  refine zr_calli (zr_runS (As := [va_rf r0, .int (0 : Int32), .int x_15, .int (0 : Int32), .int (4 : Int32)]) hk hH hz hS hl.1 hw (va_cwS 5 hts (lw_S q1684 q1685 q142 q1686) rfl rfl rfl (by decide +kernel) (z_room (Nat.le_of_ble_eq_true rfl))) rfl rfl (Nat.le_of_ble_eq_true rfl) dJ13_hashCode_48 ⟨hcl, hsl⟩) hS (fun x_20 hp_18 nx_19 hw H locs hH hz hS => ?_)
  exact hJ_51 x_20 hp_18 nx_19 (0 + c_16) (0 + s_17) _ _ _ hw hl hH hz hS
def wp_J13_charAt (l : Launch) (g : zG) (d : Nat) (r0 : Option Nat) (x1 : Int32) (hp : zHp) (nx : Nat) (Post : Int32 → zHp → Nat → Prop) : Prop :=
  (zln (g.2.1 2) hp r0 fun x_3 =>
  (zMt l g yJ7_checkIndex cJ7_checkIndex 2 none d 0 0 [.int x1, .int x_3] hp nx (zQv g fun hp_4 nx_5 =>
  (zaI (g.2.1 2) hp_4 r0 fun a_6 n_7 f_8 => vp_in x1 n_7 ∧ ∀ x_9 : Int32, x_9 = f_8 x1.toNatClampNeg →
  ((narrow .char (.int (((x_9 &&& (255 : Int32)).toUInt32 % 65536).toInt32)) = .int (((x_9 &&& (255 : Int32)).toUInt32 % 65536).toInt32) ∧ Post (((x_9 &&& (255 : Int32)).toUInt32 % 65536).toInt32) hp_4 nx_5))))))
set_option maxHeartbeats 40000000 in
theorem met_J13_charAt {l : Launch} {g : zG} {d : Nat} {r0 : Option Nat} {x1 : Int32} {hp : zHp} {nx : Nat} {Post : Int32 → zHp → Nat → Prop} (hw : wp_J13_charAt l g d r0 x1 hp nx Post) : zMt l g yJ13_charAt cJ13_charAt 2 (some .char) (d + 1) 0 0 [va_rf r0, .int x1] hp nx (zQi g Post) := by
  refine z_start (by decide) (by cases r0 <;> exact Nat.le_of_ble_eq_true rfl) ?_
  intro p e s m below meth c hk hr hin hH hz ls hl
  have hx := hk.1.1
  have hb := hk.1.2.1
  have hown := hk.1.2.2.2.1
  have hts := hk.1.2.2.2.2
  have hS : va_S (zAd g) s.heap s.heap [] := va_S.rf
  have hl : lv_has ls 2 [(0, va_rf r0), (1, .int x1)] := by cases r0 <;> exact hl
  unfold wp_J13_charAt at hw
  refine lv_iload_n hx hb dJ13_charAt_0 rfl (lv_at hl 1 rfl) ?_
  refine zr_aload_n (r := r0) hx hb dJ13_charAt_1 rfl (lv_at hl 0 rfl) ?_
  obtain ⟨a_1, v_2, er, he, hw⟩ := zln_e hw
  refine zw_alen hk hH 2 er he rfl dJ13_charAt_2 ?_
  generalize Int32.ofNat v_2.1 = x_3 at hw ⊢
  refine zr_callv (zr_runS (As := [.int x1, .int x_3]) hk hH hz hS hl.1 hw (va_cwS 2 hts (lw_S q1809 q1430 q140 q1431) rfl rfl rfl (by decide +kernel) (z_room (Nat.le_of_ble_eq_true rfl))) rfl rfl (Nat.le_of_ble_eq_true rfl) dJ13_charAt_3 ⟨Nat.le_of_ble_eq_true rfl, Nat.le_of_ble_eq_true rfl⟩) hS (fun hp_4 nx_5 hw H locs hH hz hS => ?_)
  refine zr_aload_n (r := r0) hx hb dJ13_charAt_6 rfl (lv_at hl 0 rfl) ?_
  refine lv_iload_n hx hb dJ13_charAt_7 rfl (lv_at hl 1 rfl) ?_
  obtain ⟨a_6, n_7, f_8, er, he, hi, hw⟩ := zaI_e hw
  have hw := hw _ rfl
  refine zw_bald hk hH er he hi dJ13_charAt_8 ?_
  generalize f_8 x1.toNatClampNeg = x_9 at hw ⊢
  refine lv_sipush (v := (255 : Int32)) hx hb dJ13_charAt_9 (by decide) ?_
  refine lv_iand hx hb dJ13_charAt_12 ?_
  refine lv_i2c hx hb dJ13_charAt_13 rfl ?_
  exact zr_nret hk hr hH hz hS hw.1 hw.2 (Nat.le_of_ble_eq_true rfl) (Nat.le_of_ble_eq_true rfl) dJ13_charAt_14
def wp_J14_init (l : Launch) (g : zG) (d : Nat) (h0 : Nat) (hp : zHp) (nx : Nat) (Post : zHp → Nat → Prop) : Prop :=
  (Post hp nx)
set_option maxHeartbeats 40000000 in
theorem met_J14_init {l : Launch} {g : zG} {d : Nat} {h0 : Nat} {hp : zHp} {nx : Nat} {Post : zHp → Nat → Prop} (hw : wp_J14_init l g d h0 hp nx Post) : zMt l g yJ14_init cJ14_init 1 none (d + 1) 0 0 [.ref h0] hp nx (zQv g Post) := by
  refine z_start (by decide) (Nat.le_of_ble_eq_true rfl) ?_
  intro p e s m below meth c hk hr hin hH hz ls hl
  have hx := hk.1.1
  have hb := hk.1.2.1
  have hown := hk.1.2.2.2.1
  have hts := hk.1.2.2.2.2
  have hS : va_S (zAd g) s.heap s.heap [] := va_S.rf
  have hl : lv_has ls 1 [(0, va_rf (some h0))] := hl
  unfold wp_J14_init at hw
  refine zr_aload_n (r := some h0) hx hb dJ14_init_0 rfl (lv_at hl 0 rfl) ?_
  refine W.objInit (a := h0) hx hb hown (hts _ q749) (hts _ q206) (hts _ q207) rfl (by rw [hk.1.2.2.1]; exact hl.1) rfl dJ14_init_1 (Nat.le_add_left 1 d) (Nat.le_trans (Nat.le_of_ble_eq_true rfl : _ ≤ 64) (by show 64 ≤ 64 * (d + 1); omega)) ?_
  refine W.eq (g2 := F0 m 4 ls []) rfl ?_
  exact zr_vret hk hr hH hz hS hw (Nat.le_of_ble_eq_true rfl) (Nat.le_of_ble_eq_true rfl) dJ14_init_4
def wp_J15_stringSize (l : Launch) (g : zG) (d : Nat) (x0 : Int32) (hp : zHp) (nx : Nat) (Post : Int32 → zHp → Nat → Prop) : Prop :=
  (∃ P_11 : Int32 → Int32 → Prop, (∀ (x_1 : Int32) (x_2 : Int32), P_11 x_1 x_2 →
  (∃ I_16 : Nat → Int32 → Int32 → Int32 → Int32 → Prop, (∃ n_11, I_16 n_11 x_1 x_2 (-10 : Int32) (1 : Int32)) ∧ ∀ (n_7 : Nat) (x_3 : Int32) (x_4 : Int32) (x_5 : Int32) (x_6 : Int32), I_16 n_7 x_3 x_4 x_5 x_6 →
  (((10 : Int32) ≤ x_6 →
  (Post ((10 : Int32) + x_4) hp nx)) ∧
  (¬ (10 : Int32) ≤ x_6 →
  ((x_3 ≤ x_5 →
  (∀ x_8 : Int32, x_8 = (10 : Int32) * x_5 →
  (∀ x_9 : Int32, x_9 = x_6 + (1 : Int32) →
  (∃ k_10, k_10 < n_7 ∧ I_16 k_10 x_3 x_4 x_8 x_9)))) ∧
  (¬ x_3 ≤ x_5 →
  (Post (x_6 + x_4) hp nx))))))) ∧
  ((x0 < 0 →
  P_11 x0 (1 : Int32)) ∧
  (¬ x0 < 0 →
  (∀ x_12 : Int32, x_12 = -x0 →
  P_11 x_12 (0 : Int32)))))
set_option maxHeartbeats 40000000 in
theorem met_J15_stringSize {l : Launch} {g : zG} {d : Nat} {x0 : Int32} {hp : zHp} {nx : Nat} {Post : Int32 → zHp → Nat → Prop} (hw : wp_J15_stringSize l g d x0 hp nx Post) : zMt l g yJ15_stringSize cJ15_stringSize 4 (some .int) (d + 1) 0 0 [.int x0] hp nx (zQi g Post) := by
  refine z_start (by decide) (Nat.le_of_ble_eq_true rfl) ?_
  intro p e s m below meth c hk hr hin hH hz ls hl
  have hx := hk.1.1
  have hb := hk.1.2.1
  have hown := hk.1.2.2.2.1
  have hts := hk.1.2.2.2.2
  have hS : va_S (zAd g) s.heap s.heap [] := va_S.rf
  have hl : lv_has ls 4 [(0, .int x0)] := hl
  unfold wp_J15_stringSize at hw
  refine lv_iconst (v := (1 : Int32)) hx hb dJ15_stringSize_0 (by decide) ?_
  refine lv_istore_n (i := 1) (lv' := [(1, .int (1 : Int32)), (0, .int x0)]) hx hb dJ15_stringSize_1 rfl hl (by decide) (by first | rfl | simp [List.filter_cons, z_cat, z_catI, z_catJ, z_catF, z_catD]) (fun ls hl => ?_)
  refine lv_iload_n hx hb dJ15_stringSize_2 rfl (lv_at hl 1 rfl) ?_
  obtain ⟨P_11, hP_11, hw⟩ := hw
  have hJ_11 : ∀ (x_1 : Int32) (x_2 : Int32) (H : Heap) (locs : List Loc) (ls : Array Slot), P_11 x_1 x_2 → lv_has ls 4 [(0, .int x_1), (1, .int x_2)] → zHd g hp H → H.size = nx → va_S (zAd g) s.heap H locs → W p l e (zrm (d + 1) 0 0) s m ([.int x0] : List Value).toArray below meth c H locs 0 0 (MQ below (zQi g Post) ([.int x0] : List Value).toArray s 0 0 (zAd g)) (F0 m 11 ls []) := by
    intro x_1 x_2 H locs ls hw hl hH hz hS
    have hw := hP_11 x_1 x_2 hw
    refine lv_bipush (v := (-10 : Int32)) hx hb dJ15_stringSize_11 (by decide) ?_
    refine lv_istore_n (i := 2) (lv' := [(2, .int (-10 : Int32)), (0, .int x_1), (1, .int x_2)]) hx hb dJ15_stringSize_13 rfl hl (by decide) (by first | rfl | simp [List.filter_cons, z_cat, z_catI, z_catJ, z_catF, z_catD]) (fun ls hl => ?_)
    refine lv_iconst (v := (1 : Int32)) hx hb dJ15_stringSize_14 (by decide) ?_
    refine lv_istore_n (i := 3) (lv' := [(3, .int (1 : Int32)), (2, .int (-10 : Int32)), (0, .int x_1), (1, .int x_2)]) hx hb dJ15_stringSize_15 rfl hl (by decide) (by first | rfl | simp [List.filter_cons, z_cat, z_catI, z_catJ, z_catF, z_catD]) (fun ls hl => ?_)
    obtain ⟨I_16, ⟨n_11, hI⟩, hB_16⟩ := hw
    have hL_16 : ∀ (n_7 : Nat) (x_3 : Int32) (x_4 : Int32) (x_5 : Int32) (x_6 : Int32) (H : Heap) (locs : List Loc) (ls : Array Slot), I_16 n_7 x_3 x_4 x_5 x_6 → lv_has ls 4 [(0, .int x_3), (1, .int x_4), (2, .int x_5), (3, .int x_6)] → zHd g hp H → H.size = nx → va_S (zAd g) s.heap H locs → W p l e (zrm (d + 1) 0 0) s m ([.int x0] : List Value).toArray below meth c H locs 0 0 (MQ below (zQi g Post) ([.int x0] : List Value).toArray s 0 0 (zAd g)) (F0 m 16 ls []) := by
      intro n_7
      induction n_7 using Nat.strongRecOn with
      | _ n_7 ih_16 =>
        intro x_3 x_4 x_5 x_6 H locs ls hw hl hH hz hS
        have hw := hB_16 n_7 x_3 x_4 x_5 x_6 hw
        refine lv_iload_n hx hb dJ15_stringSize_16 rfl (lv_at hl 3 rfl) ?_
        refine lv_bipush (v := (10 : Int32)) hx hb dJ15_stringSize_17 (by decide) ?_
        refine lv_icmp_ge (tgt := 42) hx hb dJ15_stringSize_19 (by decide) (fun hc => ?_) (fun hc => ?_)
        · have hw := hw.1 hc
          refine lv_bipush (v := (10 : Int32)) hx hb dJ15_stringSize_42 (by decide) ?_
          refine lv_iload_n hx hb dJ15_stringSize_44 rfl (lv_at hl 1 rfl) ?_
          refine lv_iadd hx hb dJ15_stringSize_45 ?_
          exact zr_iret hk hr hH hz hS hw (Nat.le_of_ble_eq_true rfl) (Nat.le_of_ble_eq_true rfl) dJ15_stringSize_46
        · have hw := hw.2 hc
          refine lv_iload_n hx hb dJ15_stringSize_22 rfl (lv_at hl 0 rfl) ?_
          refine lv_iload_n hx hb dJ15_stringSize_23 rfl (lv_at hl 2 rfl) ?_
          refine lv_icmp_le (tgt := 31) hx hb dJ15_stringSize_24 (by decide) (fun hc => ?_) (fun hc => ?_)
          · have hw := hw.1 hc
            refine lv_bipush (v := (10 : Int32)) hx hb dJ15_stringSize_31 (by decide) ?_
            refine lv_iload_n hx hb dJ15_stringSize_33 rfl (lv_at hl 2 rfl) ?_
            refine lv_imul hx hb dJ15_stringSize_34 ?_
            refine lv_topi (fun x_8 ex_8 => ?_)
            have hw := hw x_8 ex_8
            refine lv_istore_n (i := 2) (lv' := [(2, .int x_8), (0, .int x_3), (1, .int x_4), (3, .int x_6)]) hx hb dJ15_stringSize_35 rfl hl (by decide) (by first | rfl | simp [List.filter_cons, z_cat, z_catI, z_catJ, z_catF, z_catD]) (fun ls hl => ?_)
            obtain ⟨x_9, ex_9⟩ : ∃ y : Int32, y = x_6 + (1 : Int32) := ⟨_, rfl⟩
            have hw := hw x_9 ex_9
            refine lv_iinc (v := x_9) (lv' := [(3, .int x_9), (2, .int x_8), (0, .int x_3), (1, .int x_4)]) hx hb dJ15_stringSize_36 hl (k := 3) rfl (by rw [ex_9]; rfl) (by decide) (by first | rfl | simp [List.filter_cons, z_cat, z_catI, z_catJ, z_catF, z_catD]) (fun ls hl => ?_)
            refine lv_goto (tgt := 16) hx hb dJ15_stringSize_39 (by decide) ?_
            obtain ⟨k_10, hlt, hw⟩ := hw
            exact ih_16 k_10 hlt x_3 x_4 x_8 x_9 _ _ _ hw (lv_sub hl [2, 3, 1, 0] rfl) hH hz hS
          · have hw := hw.2 hc
            refine lv_iload_n hx hb dJ15_stringSize_27 rfl (lv_at hl 3 rfl) ?_
            refine lv_iload_n hx hb dJ15_stringSize_28 rfl (lv_at hl 1 rfl) ?_
            refine lv_iadd hx hb dJ15_stringSize_29 ?_
            exact zr_iret hk hr hH hz hS hw (Nat.le_of_ble_eq_true rfl) (Nat.le_of_ble_eq_true rfl) dJ15_stringSize_30
    exact hL_16 n_11 x_1 x_2 (-10 : Int32) (1 : Int32) _ _ _ hI (lv_sub hl [2, 3, 1, 0] rfl) hH hz hS
  refine lv_if_lt (tgt := 11) hx hb dJ15_stringSize_3 (by decide) (fun hc => ?_) (fun hc => ?_)
  · have hw := hw.1 hc
    exact hJ_11 x0 (1 : Int32) _ _ _ hw (lv_sub hl [1, 0] rfl) hH hz hS
  · have hw := hw.2 hc
    refine lv_iconst (v := (0 : Int32)) hx hb dJ15_stringSize_6 (by decide) ?_
    refine lv_istore_n (i := 1) (lv' := [(1, .int (0 : Int32)), (0, .int x0)]) hx hb dJ15_stringSize_7 rfl hl (by decide) (by first | rfl | simp [List.filter_cons, z_cat, z_catI, z_catJ, z_catF, z_catD]) (fun ls hl => ?_)
    refine lv_iload_n hx hb dJ15_stringSize_8 rfl (lv_at hl 1 rfl) ?_
    refine lv_ineg hx hb dJ15_stringSize_9 ?_
    refine lv_topi (fun x_12 ex_12 => ?_)
    have hw := hw x_12 ex_12
    refine lv_istore_n (i := 0) (lv' := [(0, .int x_12), (1, .int (0 : Int32))]) hx hb dJ15_stringSize_10 rfl hl (by decide) (by first | rfl | simp [List.filter_cons, z_cat, z_catI, z_catJ, z_catF, z_catD]) (fun ls hl => ?_)
    exact hJ_11 x_12 (0 : Int32) _ _ _ hw hl hH hz hS
theorem no_J15_1 : zNo "java/lang/Integer" 1 41 := ⟨RJ15, TJ15, 1, rfl, q741, q742, q149⟩
def wp_J15_valueOf (l : Launch) (g : zG) (d : Nat) (mc ms : Nat) (x0 : Int32) (hp : zHp) (nx : Nat) (Post : Option Nat → zHp → Nat → Prop) : Prop :=
  (∃ P_23 : zHp → Nat → Nat → Nat → Prop, (∀ (hp_1 : zHp) (nx_2 : Nat) (kc_3 : Nat) (ks_4 : Nat), P_23 hp_1 nx_2 kc_3 ks_4 →
  (znw g mc ms hp_1 nx_2 kc_3 ks_4 41 fun hp_5 =>
  ∀ nx_6 kc_7 ks_8 : Nat, nx_6 = (nx_2 + 1) → kc_7 = (kc_3 + 1) → ks_8 = (ks_4 + zNn 41) →
  (kc_7 ≤ mc ∧ ks_8 ≤ ms ∧ zMt l g yJ15_init cJ15_init 2 none d 0 0 (.ref nx_2 :: [.int x0]) hp_5 nx_6 (zQv g fun hp_9 nx_10 =>
  (kc_7 ≤ mc ∧ ks_8 ≤ ms ∧ Post (some nx_2) hp_9 nx_10))))) ∧
  ((x0 < (-128 : Int32) →
  P_23 hp nx 0 0) ∧
  (¬ x0 < (-128 : Int32) →
  (((127 : Int32) < x0 →
  P_23 hp nx 0 0) ∧
  (¬ (127 : Int32) < x0 →
  (zaR (g.2.1 17) hp (some g.2.2.2.1) fun a_14 n_15 f_16 => vp_in (x0 + (128 : Int32)) n_15 ∧ ∀ r_17 : Option Nat, r_17 = f_16 (x0 + (128 : Int32)).toNatClampNeg →
  (0 ≤ mc ∧ 0 ≤ ms ∧ Post r_17 hp nx)))))))
set_option maxHeartbeats 40000000 in
theorem met_J15_valueOf {l : Launch} {g : zG} {d : Nat} {mc ms : Nat} {x0 : Int32} {hp : zHp} {nx : Nat} {Post : Option Nat → zHp → Nat → Prop} (hw : wp_J15_valueOf l g d mc ms x0 hp nx Post) : zMt l g yJ15_valueOf cJ15_valueOf 1 (some (.object "java/lang/Integer")) (d + 1) mc ms [.int x0] hp nx (zQq g Post) := by
  refine z_start (by decide) (Nat.le_of_ble_eq_true rfl) ?_
  intro p e s m below meth c hk hr hin hH hz ls hl
  have hx := hk.1.1
  have hb := hk.1.2.1
  have hown := hk.1.2.2.2.1
  have hts := hk.1.2.2.2.2
  have hS : va_S (zAd g) s.heap s.heap [] := va_S.rf
  have hl : lv_has ls 1 [(0, .int x0)] := hl
  unfold wp_J15_valueOf at hw
  refine lv_iload_n hx hb dJ15_valueOf_0 rfl (lv_at hl 0 rfl) ?_
  refine lv_bipush (v := (-128 : Int32)) hx hb dJ15_valueOf_1 (by decide) ?_
  obtain ⟨P_23, hP_23, hw⟩ := hw
  have hJ_23 : ∀ (hp_1 : zHp) (nx_2 : Nat) (kc_3 : Nat) (ks_4 : Nat) (H : Heap) (locs : List Loc) (ls : Array Slot), P_23 hp_1 nx_2 kc_3 ks_4 → lv_has ls 1 [(0, .int x0)] → zHd g hp_1 H → H.size = nx_2 → va_S (zAd g) s.heap H locs → W p l e (zrm (d + 1) mc ms) s m ([.int x0] : List Value).toArray below meth c H locs kc_3 ks_4 (MQ below (zQq g Post) ([.int x0] : List Value).toArray s mc ms (zAd g)) (F0 m 23 ls []) := by
    intro hp_1 nx_2 kc_3 ks_4 H locs ls hw hl hH hz hS
    have hw := hP_23 hp_1 nx_2 kc_3 ks_4 hw
    obtain ⟨hcl, hsl, hw⟩ := hw
    refine zx_new hk hH hz hS (ci := 41) no_J15_1 hcl hsl dJ15_valueOf_23 (fun H hH hz hS hlt hnb => ?_)
    have hw := hw hlt hnb
    generalize va_up hp_1 nx_2 _ = hp_5 at hH hw
    obtain ⟨kc_7, ekc⟩ : ∃ k, k = (kc_3 + 1) := ⟨_, rfl⟩
    obtain ⟨ks_8, eks⟩ : ∃ k, k = (ks_4 + zNn 41) := ⟨_, rfl⟩
    have hw := hw _ _ _ rfl ekc eks
    refine W.widen (Nat.le_of_eq ekc.symm) (Nat.le_of_eq eks.symm) ?_
    clear ekc eks
    generalize (nx_2 + 1) = nx_6 at hz hw
    refine lv_dup hx hb dJ15_valueOf_26 (z_cat _) ?_
    refine lv_iload_n hx hb dJ15_valueOf_27 rfl (lv_at hl 0 rfl) ?_
    obtain ⟨hcl, hsl, hw⟩ := hw
    refine zr_callv (zw_runI (As := [.int x0]) (r := some nx_2) hk hH hz hS hl.1 rfl hw (cwI 1 hts (lw_meth q745) rfl rfl rfl (hts _ q149) (hts _ q743) (hts _ q744) rfl (by decide +kernel) (z_room (Nat.le_of_ble_eq_true rfl))) rfl rfl (by simp only [List.map_cons, List.map_nil, z_cat]; exact Nat.le_of_ble_eq_true rfl) dJ15_valueOf_28 ⟨hcl, hsl⟩) hS (fun hp_9 nx_10 hw H locs hH hz hS => ?_)
    obtain ⟨hkc, hks, hw⟩ := hw
    exact zr_aret (r := some nx_2) hk hr (Or.inl ⟨_, rfl⟩) hH hz hS hw hkc hks dJ15_valueOf_31
  refine lv_icmp_lt (tgt := 23) hx hb dJ15_valueOf_3 (by decide) (fun hc => ?_) (fun hc => ?_)
  · have hw := hw.1 hc
    exact hJ_23 hp nx 0 0 _ _ _ hw hl hH hz hS
  · have hw := hw.2 hc
    refine lv_iload_n hx hb dJ15_valueOf_6 rfl (lv_at hl 0 rfl) ?_
    refine zw_gets hk hS 1 rfl q737 dJ15_valueOf_7 ?_
    refine lv_icmp_gt (tgt := 23) hx hb dJ15_valueOf_10 (by decide) (fun hc => ?_) (fun hc => ?_)
    · have hw := hw.1 hc
      exact hJ_23 hp nx 0 0 _ _ _ hw hl hH hz hS
    · have hw := hw.2 hc
      refine zw_gets hk hS 3 rfl q739 dJ15_valueOf_13 ?_
      refine lv_iload_n hx hb dJ15_valueOf_16 rfl (lv_at hl 0 rfl) ?_
      refine lv_sipush (v := (128 : Int32)) hx hb dJ15_valueOf_17 (by decide) ?_
      refine lv_iadd hx hb dJ15_valueOf_20 ?_
      obtain ⟨a_14, n_15, f_16, er, he, hi, hw⟩ := zaR_e hw
      have hw := hw _ rfl
      refine zw_aald hk hH 17 er he rfl rfl hi dJ15_valueOf_21 ?_
      generalize f_16 (x0 + (128 : Int32)).toNatClampNeg = r_17 at hw ⊢
      obtain ⟨hkc, hks, hw⟩ := hw
      exact zr_aret (r := r_17) hk hr (Or.inl ⟨_, rfl⟩) hH hz hS hw hkc hks dJ15_valueOf_22
theorem ff_J15_205 {ci : Nat} (h : ci ∈ [41]) : zFf "java/lang/Integer" 205 ci 0 .int := by
  simp only [List.mem_cons, List.not_mem_nil, or_false] at h
  rcases h with rfl
  · exact ⟨RJ15, TJ15, 1, rfl, by decide, q750, rfl, rfl, by decide +kernel⟩
def wp_J15_init (l : Launch) (g : zG) (d : Nat) (h0 : Nat) (x1 : Int32) (hp : zHp) (nx : Nat) (Post : zHp → Nat → Prop) : Prop :=
  (zMt l g yJ14_init cJ14_init 1 none d 0 0 (.ref h0 :: []) hp nx (zQv g fun hp_1 nx_2 =>
  (zpt g hp_1 (some h0) [41] 0 (.int x1) fun hp_6 =>
  (Post hp_6 nx_2))))
set_option maxHeartbeats 40000000 in
theorem met_J15_init {l : Launch} {g : zG} {d : Nat} {h0 : Nat} {x1 : Int32} {hp : zHp} {nx : Nat} {Post : zHp → Nat → Prop} (hw : wp_J15_init l g d h0 x1 hp nx Post) : zMt l g yJ15_init cJ15_init 2 none (d + 1) 0 0 [.ref h0, .int x1] hp nx (zQv g Post) := by
  refine z_start (by decide) (Nat.le_of_ble_eq_true rfl) ?_
  intro p e s m below meth c hk hr hin hH hz ls hl
  have hx := hk.1.1
  have hb := hk.1.2.1
  have hown := hk.1.2.2.2.1
  have hts := hk.1.2.2.2.2
  have hS : va_S (zAd g) s.heap s.heap [] := va_S.rf
  have hl : lv_has ls 2 [(0, va_rf (some h0)), (1, .int x1)] := hl
  unfold wp_J15_init at hw
  refine zr_aload_n (r := some h0) hx hb dJ15_init_0 rfl (lv_at hl 0 rfl) ?_
  refine zr_callv (zw_runI (As := []) (r := some h0) hk hH hz hS hl.1 rfl hw (cwI 0 hts (lw_meth q748) rfl rfl rfl (hts _ q148) (hts _ q746) (hts _ q747) rfl (by decide +kernel) (z_room (Nat.le_of_ble_eq_true rfl))) rfl rfl (Nat.le_of_ble_eq_true rfl) dJ15_init_1 ⟨Nat.le_of_ble_eq_true rfl, Nat.le_of_ble_eq_true rfl⟩) hS (fun hp_1 nx_2 hw H locs hH hz hS => ?_)
  refine zr_aload_n (r := some h0) hx hb dJ15_init_4 rfl (lv_at hl 0 rfl) ?_
  refine lv_iload_n hx hb dJ15_init_5 rfl (lv_at hl 1 rfl) ?_
  obtain ⟨a_3, ci_4, fs_5, hp_6, er, he, hc, hA, hkl, eh, hw⟩ := zpt_e hw
  refine zw_putF hk hin hH hz hS er he hA hkl eh (ff_J15_205 hc) rfl rfl dJ15_init_6 (fun H locs hH hz hS => ?_)
  exact zr_vret hk hr hH hz hS hw (Nat.le_of_ble_eq_true rfl) (Nat.le_of_ble_eq_true rfl) dJ15_init_9
theorem fk_J15_205 {ci : Nat} (h : ci ∈ [41]) : zFk "java/lang/Integer" 205 ci 0 := by
  simp only [List.mem_cons, List.not_mem_nil, or_false] at h
  rcases h with rfl
  · exact ⟨RJ15, TJ15, 1, rfl, by decide, q750⟩
def wp_J15_equals (l : Launch) (g : zG) (d : Nat) (h0 : Nat) (r1 : Option Nat) (hp : zHp) (nx : Nat) (Post : Int32 → zHp → Nat → Prop) : Prop :=
  (zCa1 hp r1 [41] ∧ (((1 : Int32) = 0 →
  (Post (0 : Int32) hp nx)) ∧
  (¬ (1 : Int32) = 0 →
  (zgI hp (some h0) [41] 0 fun x_4 =>
  (zCa hp r1 [41] ∧ (zo hp r1 [41] fun a_11 ci_12 fs_13 => zMt l g yJ15_intValue cJ15_intValue 1 (some .int) d 0 0 (.ref a_11 :: []) hp nx (zQi g fun x_7 hp_5 nx_6 =>
  (∃ P_26 : Int32 → zHp → Nat → Prop, (∀ (x_8 : Int32) (hp_9 : zHp) (nx_10 : Nat), P_26 x_8 hp_9 nx_10 →
  (((x_8 = 0 ∨ x_8 = 1) ∧ Post x_8 hp_9 nx_10))) ∧
  ((x_4 = x_7 →
  P_26 (1 : Int32) hp_5 nx_6) ∧
  (¬ x_4 = x_7 →
  P_26 (0 : Int32) hp_5 nx_6))))))))))
set_option maxHeartbeats 40000000 in
theorem met_J15_equals {l : Launch} {g : zG} {d : Nat} {h0 : Nat} {r1 : Option Nat} {hp : zHp} {nx : Nat} {Post : Int32 → zHp → Nat → Prop} (hw : wp_J15_equals l g d h0 r1 hp nx Post) : zMt l g yJ15_equals cJ15_equals 2 (some .boolean) (d + 1) 0 0 [.ref h0, va_rf r1] hp nx (zQi g Post) := by
  refine z_start (by decide) (by cases r1 <;> exact Nat.le_of_ble_eq_true rfl) ?_
  intro p e s m below meth c hk hr hin hH hz ls hl
  have hx := hk.1.1
  have hb := hk.1.2.1
  have hown := hk.1.2.2.2.1
  have hts := hk.1.2.2.2.2
  have hS : va_S (zAd g) s.heap s.heap [] := va_S.rf
  have hl : lv_has ls 2 [(0, va_rf (some h0)), (1, va_rf r1)] := by cases r1 <;> exact hl
  unfold wp_J15_equals at hw
  refine zr_aload_n (r := r1) hx hb dJ15_equals_0 rfl (lv_at hl 1 rfl) ?_
  obtain ⟨hca, hw⟩ := hw
  refine zw_inst (r := r1) hk hH q741 hca cw_java_lang_Integer dJ15_equals_1 ?_
  refine lv_if_eq (tgt := 27) hx hb dJ15_equals_4 (by decide) (fun hc => ?_) (fun hc => ?_)
  · have hw := hw.1 hc
    refine lv_iconst (v := (0 : Int32)) hx hb dJ15_equals_27 (by decide) ?_
    exact zr_zret hk hr hH hz hS (Or.inl rfl) hw (Nat.le_of_ble_eq_true rfl) (Nat.le_of_ble_eq_true rfl) dJ15_equals_28
  · have hw := hw.2 hc
    refine zr_aload_n (r := some h0) hx hb dJ15_equals_7 rfl (lv_at hl 0 rfl) ?_
    obtain ⟨a_1, ci_2, fs_3, x_4, er, he, hc, hv, hw⟩ := zgI_e hw
    refine zw_get hk hH er he hv (fk_J15_205 hc) dJ15_equals_8 ?_
    refine zr_aload_n (r := r1) hx hb dJ15_equals_11 rfl (lv_at hl 1 rfl) ?_
    obtain ⟨hca, hw⟩ := hw
    refine zw_cast (r := r1) hk hH q741 hca cw_java_lang_Integer dJ15_equals_12 ?_
    obtain ⟨a_11, ci_12, fs_13, er, he, hc, hw⟩ := zo_e hw
    obtain rfl := List.mem_singleton.mp hc
    refine zr_calli (zw_runV (As := []) hk hH hz hS hl.1 er hw (cwV 0 hts (lw_V q805 q806 q807 q149 q808) rfl rfl rfl (by decide +kernel) (z_room (Nat.le_of_ble_eq_true rfl))) he rfl rfl rfl (Nat.le_of_ble_eq_true rfl) dJ15_equals_15 ⟨Nat.le_of_ble_eq_true rfl, Nat.le_of_ble_eq_true rfl⟩) hS (fun x_7 hp_5 nx_6 hw H locs hH hz hS => ?_)
    obtain ⟨P_26, hP_26, hw⟩ := hw
    have hJ_26 : ∀ (x_8 : Int32) (hp_9 : zHp) (nx_10 : Nat) (H : Heap) (locs : List Loc) (ls : Array Slot), P_26 x_8 hp_9 nx_10 → lv_has ls 2 [(0, va_rf (some h0)), (1, va_rf r1)] → zHd g hp_9 H → H.size = nx_10 → va_S (zAd g) s.heap H locs → W p l e (zrm (d + 1) 0 0) s m ([.ref h0, va_rf r1] : List Value).toArray below meth c H locs 0 0 (MQ below (zQi g Post) ([.ref h0, va_rf r1] : List Value).toArray s 0 0 (zAd g)) (F0 m 26 ls [.int x_8]) := by
      intro x_8 hp_9 nx_10 H locs ls hw hl hH hz hS
      have hw := hP_26 x_8 hp_9 nx_10 hw
      exact zr_zret hk hr hH hz hS hw.1 hw.2 (Nat.le_of_ble_eq_true rfl) (Nat.le_of_ble_eq_true rfl) dJ15_equals_26
    refine lv_icmp_ne (tgt := 25) hx hb dJ15_equals_18 (by decide) (fun hc => ?_) (fun hc => ?_)
    · have hw := hw.2 hc
      refine lv_iconst (v := (0 : Int32)) hx hb dJ15_equals_25 (by decide) ?_
      exact hJ_26 (0 : Int32) hp_5 nx_6 _ _ _ hw hl hH hz hS
    · have hw := hw.1 hc
      refine lv_iconst (v := (1 : Int32)) hx hb dJ15_equals_21 (by decide) ?_
      refine lv_goto (tgt := 26) hx hb dJ15_equals_22 (by decide) ?_
      exact hJ_26 (1 : Int32) hp_5 nx_6 _ _ _ hw hl hH hz hS
def wp_J15_intValue (l : Launch) (g : zG) (d : Nat) (h0 : Nat) (hp : zHp) (nx : Nat) (Post : Int32 → zHp → Nat → Prop) : Prop :=
  (zgI hp (some h0) [41] 0 fun x_4 =>
  (Post x_4 hp nx))
set_option maxHeartbeats 40000000 in
theorem met_J15_intValue {l : Launch} {g : zG} {d : Nat} {h0 : Nat} {hp : zHp} {nx : Nat} {Post : Int32 → zHp → Nat → Prop} (hw : wp_J15_intValue l g d h0 hp nx Post) : zMt l g yJ15_intValue cJ15_intValue 1 (some .int) (d + 1) 0 0 [.ref h0] hp nx (zQi g Post) := by
  refine z_start (by decide) (Nat.le_of_ble_eq_true rfl) ?_
  intro p e s m below meth c hk hr hin hH hz ls hl
  have hx := hk.1.1
  have hb := hk.1.2.1
  have hown := hk.1.2.2.2.1
  have hts := hk.1.2.2.2.2
  have hS : va_S (zAd g) s.heap s.heap [] := va_S.rf
  have hl : lv_has ls 1 [(0, va_rf (some h0))] := hl
  unfold wp_J15_intValue at hw
  refine zr_aload_n (r := some h0) hx hb dJ15_intValue_0 rfl (lv_at hl 0 rfl) ?_
  obtain ⟨a_1, ci_2, fs_3, x_4, er, he, hc, hv, hw⟩ := zgI_e hw
  refine zw_get hk hH er he hv (fk_J15_205 hc) dJ15_intValue_1 ?_
  exact zr_iret hk hr hH hz hS hw (Nat.le_of_ble_eq_true rfl) (Nat.le_of_ble_eq_true rfl) dJ15_intValue_4
def wp_J15_numberOfTrailingZeros (l : Launch) (g : zG) (d : Nat) (x0 : Int32) (hp : zHp) (nx : Nat) (Post : Int32 → zHp → Nat → Prop) : Prop :=
  (∀ x_1 : Int32, x_1 = (x0 ^^^ (-1 : Int32)) &&& (x0 - (1 : Int32)) →
  ((0 < x_1 →
  (∃ P_34 : Int32 → Int32 → Prop, (∀ (x_2 : Int32) (x_3 : Int32), P_34 x_2 x_3 →
  (∃ P_49 : Int32 → Int32 → Prop, (∀ (x_4 : Int32) (x_5 : Int32), P_49 x_4 x_5 →
  (∃ P_62 : Int32 → Int32 → Prop, (∀ (x_6 : Int32) (x_7 : Int32), P_62 x_6 x_7 →
  (∃ P_74 : Int32 → Int32 → Prop, (∀ (x_8 : Int32) (x_9 : Int32), P_74 x_8 x_9 →
  (Post (x_9 + ((x_8.toUInt32 >>> ((1 : Int32).toUInt32 &&& Int32.toUInt32 31)).toInt32)) hp nx)) ∧
  ((x_6 ≤ (4 : Int32) →
  P_74 x_6 x_7) ∧
  (¬ x_6 ≤ (4 : Int32) →
  (∀ x_10 : Int32, x_10 = x_7 + (2 : Int32) →
  (∀ x_11 : Int32, x_11 = (x_6.toUInt32 >>> ((2 : Int32).toUInt32 &&& Int32.toUInt32 31)).toInt32 →
  P_74 x_11 x_10)))))) ∧
  ((x_4 ≤ (16 : Int32) →
  P_62 x_4 x_5) ∧
  (¬ x_4 ≤ (16 : Int32) →
  (∀ x_12 : Int32, x_12 = x_5 + (4 : Int32) →
  (∀ x_13 : Int32, x_13 = (x_4.toUInt32 >>> ((4 : Int32).toUInt32 &&& Int32.toUInt32 31)).toInt32 →
  P_62 x_13 x_12)))))) ∧
  ((x_2 ≤ (256 : Int32) →
  P_49 x_2 x_3) ∧
  (¬ x_2 ≤ (256 : Int32) →
  (∀ x_14 : Int32, x_14 = x_3 + (8 : Int32) →
  (∀ x_15 : Int32, x_15 = (x_2.toUInt32 >>> ((8 : Int32).toUInt32 &&& Int32.toUInt32 31)).toInt32 →
  P_49 x_15 x_14)))))) ∧
  ((x_1 ≤ (65536 : Int32) →
  P_34 x_1 (1 : Int32)) ∧
  (¬ x_1 ≤ (65536 : Int32) →
  (∀ x_16 : Int32, x_16 = (1 : Int32) + (16 : Int32) →
  (∀ x_17 : Int32, x_17 = (x_1.toUInt32 >>> ((16 : Int32).toUInt32 &&& Int32.toUInt32 31)).toInt32 →
  P_34 x_17 x_16)))))) ∧
  (¬ 0 < x_1 →
  (Post (x_1 &&& (32 : Int32)) hp nx))))
set_option maxHeartbeats 40000000 in
theorem met_J15_numberOfTrailingZeros {l : Launch} {g : zG} {d : Nat} {x0 : Int32} {hp : zHp} {nx : Nat} {Post : Int32 → zHp → Nat → Prop} (hw : wp_J15_numberOfTrailingZeros l g d x0 hp nx Post) : zMt l g yJ15_numberOfTrailingZeros cJ15_numberOfTrailingZeros 2 (some .int) (d + 1) 0 0 [.int x0] hp nx (zQi g Post) := by
  refine z_start (by decide) (Nat.le_of_ble_eq_true rfl) ?_
  intro p e s m below meth c hk hr hin hH hz ls hl
  have hx := hk.1.1
  have hb := hk.1.2.1
  have hown := hk.1.2.2.2.1
  have hts := hk.1.2.2.2.2
  have hS : va_S (zAd g) s.heap s.heap [] := va_S.rf
  have hl : lv_has ls 2 [(0, .int x0)] := hl
  unfold wp_J15_numberOfTrailingZeros at hw
  refine lv_iload_n hx hb dJ15_numberOfTrailingZeros_0 rfl (lv_at hl 0 rfl) ?_
  refine lv_iconst (v := (-1 : Int32)) hx hb dJ15_numberOfTrailingZeros_1 (by decide) ?_
  refine lv_ixor hx hb dJ15_numberOfTrailingZeros_2 ?_
  refine lv_iload_n hx hb dJ15_numberOfTrailingZeros_3 rfl (lv_at hl 0 rfl) ?_
  refine lv_iconst (v := (1 : Int32)) hx hb dJ15_numberOfTrailingZeros_4 (by decide) ?_
  refine lv_isub hx hb dJ15_numberOfTrailingZeros_5 ?_
  refine lv_iand hx hb dJ15_numberOfTrailingZeros_6 ?_
  refine lv_topi (fun x_1 ex_1 => ?_)
  have hw := hw x_1 ex_1
  refine lv_istore_n (i := 0) (lv' := [(0, .int x_1)]) hx hb dJ15_numberOfTrailingZeros_7 rfl hl (by decide) (by first | rfl | simp [List.filter_cons, z_cat, z_catI, z_catJ, z_catF, z_catD]) (fun ls hl => ?_)
  refine lv_iload_n hx hb dJ15_numberOfTrailingZeros_8 rfl (lv_at hl 0 rfl) ?_
  refine lv_if_gt (tgt := 17) hx hb dJ15_numberOfTrailingZeros_9 (by decide) (fun hc => ?_) (fun hc => ?_)
  · have hw := hw.1 hc
    refine lv_iconst (v := (1 : Int32)) hx hb dJ15_numberOfTrailingZeros_17 (by decide) ?_
    refine lv_istore_n (i := 1) (lv' := [(1, .int (1 : Int32)), (0, .int x_1)]) hx hb dJ15_numberOfTrailingZeros_18 rfl hl (by decide) (by first | rfl | simp [List.filter_cons, z_cat, z_catI, z_catJ, z_catF, z_catD]) (fun ls hl => ?_)
    refine lv_iload_n hx hb dJ15_numberOfTrailingZeros_19 rfl (lv_at hl 1 rfl) ?_
    refine lv_ldcw hx hb hown (hts _ q956) dJ15_numberOfTrailingZeros_20 ?_
    obtain ⟨P_34, hP_34, hw⟩ := hw
    have hJ_34 : ∀ (x_2 : Int32) (x_3 : Int32) (H : Heap) (locs : List Loc) (ls : Array Slot), P_34 x_2 x_3 → lv_has ls 2 [(0, .int x_2), (1, .int x_3)] → zHd g hp H → H.size = nx → va_S (zAd g) s.heap H locs → W p l e (zrm (d + 1) 0 0) s m ([.int x0] : List Value).toArray below meth c H locs 0 0 (MQ below (zQi g Post) ([.int x0] : List Value).toArray s 0 0 (zAd g)) (F0 m 34 ls []) := by
      intro x_2 x_3 H locs ls hw hl hH hz hS
      have hw := hP_34 x_2 x_3 hw
      refine lv_iload_n hx hb dJ15_numberOfTrailingZeros_34 rfl (lv_at hl 0 rfl) ?_
      refine lv_sipush (v := (256 : Int32)) hx hb dJ15_numberOfTrailingZeros_35 (by decide) ?_
      obtain ⟨P_49, hP_49, hw⟩ := hw
      have hJ_49 : ∀ (x_4 : Int32) (x_5 : Int32) (H : Heap) (locs : List Loc) (ls : Array Slot), P_49 x_4 x_5 → lv_has ls 2 [(0, .int x_4), (1, .int x_5)] → zHd g hp H → H.size = nx → va_S (zAd g) s.heap H locs → W p l e (zrm (d + 1) 0 0) s m ([.int x0] : List Value).toArray below meth c H locs 0 0 (MQ below (zQi g Post) ([.int x0] : List Value).toArray s 0 0 (zAd g)) (F0 m 49 ls []) := by
        intro x_4 x_5 H locs ls hw hl hH hz hS
        have hw := hP_49 x_4 x_5 hw
        refine lv_iload_n hx hb dJ15_numberOfTrailingZeros_49 rfl (lv_at hl 0 rfl) ?_
        refine lv_bipush (v := (16 : Int32)) hx hb dJ15_numberOfTrailingZeros_50 (by decide) ?_
        obtain ⟨P_62, hP_62, hw⟩ := hw
        have hJ_62 : ∀ (x_6 : Int32) (x_7 : Int32) (H : Heap) (locs : List Loc) (ls : Array Slot), P_62 x_6 x_7 → lv_has ls 2 [(0, .int x_6), (1, .int x_7)] → zHd g hp H → H.size = nx → va_S (zAd g) s.heap H locs → W p l e (zrm (d + 1) 0 0) s m ([.int x0] : List Value).toArray below meth c H locs 0 0 (MQ below (zQi g Post) ([.int x0] : List Value).toArray s 0 0 (zAd g)) (F0 m 62 ls []) := by
          intro x_6 x_7 H locs ls hw hl hH hz hS
          have hw := hP_62 x_6 x_7 hw
          refine lv_iload_n hx hb dJ15_numberOfTrailingZeros_62 rfl (lv_at hl 0 rfl) ?_
          refine lv_iconst (v := (4 : Int32)) hx hb dJ15_numberOfTrailingZeros_63 (by decide) ?_
          obtain ⟨P_74, hP_74, hw⟩ := hw
          have hJ_74 : ∀ (x_8 : Int32) (x_9 : Int32) (H : Heap) (locs : List Loc) (ls : Array Slot), P_74 x_8 x_9 → lv_has ls 2 [(0, .int x_8), (1, .int x_9)] → zHd g hp H → H.size = nx → va_S (zAd g) s.heap H locs → W p l e (zrm (d + 1) 0 0) s m ([.int x0] : List Value).toArray below meth c H locs 0 0 (MQ below (zQi g Post) ([.int x0] : List Value).toArray s 0 0 (zAd g)) (F0 m 74 ls []) := by
            intro x_8 x_9 H locs ls hw hl hH hz hS
            have hw := hP_74 x_8 x_9 hw
            refine lv_iload_n hx hb dJ15_numberOfTrailingZeros_74 rfl (lv_at hl 1 rfl) ?_
            refine lv_iload_n hx hb dJ15_numberOfTrailingZeros_75 rfl (lv_at hl 0 rfl) ?_
            refine lv_iconst (v := (1 : Int32)) hx hb dJ15_numberOfTrailingZeros_76 (by decide) ?_
            refine lv_iushr hx hb dJ15_numberOfTrailingZeros_77 rfl ?_
            refine lv_iadd hx hb dJ15_numberOfTrailingZeros_78 ?_
            exact zr_iret hk hr hH hz hS hw (Nat.le_of_ble_eq_true rfl) (Nat.le_of_ble_eq_true rfl) dJ15_numberOfTrailingZeros_79
          refine lv_icmp_le (tgt := 74) hx hb dJ15_numberOfTrailingZeros_64 (by decide) (fun hc => ?_) (fun hc => ?_)
          · have hw := hw.1 hc
            exact hJ_74 x_6 x_7 _ _ _ hw hl hH hz hS
          · have hw := hw.2 hc
            obtain ⟨x_10, ex_10⟩ : ∃ y : Int32, y = x_7 + (2 : Int32) := ⟨_, rfl⟩
            have hw := hw x_10 ex_10
            refine lv_iinc (v := x_10) (lv' := [(1, .int x_10), (0, .int x_6)]) hx hb dJ15_numberOfTrailingZeros_67 hl (k := 1) rfl (by rw [ex_10]; rfl) (by decide) (by first | rfl | simp [List.filter_cons, z_cat, z_catI, z_catJ, z_catF, z_catD]) (fun ls hl => ?_)
            refine lv_iload_n hx hb dJ15_numberOfTrailingZeros_70 rfl (lv_at hl 1 rfl) ?_
            refine lv_iconst (v := (2 : Int32)) hx hb dJ15_numberOfTrailingZeros_71 (by decide) ?_
            refine lv_iushr hx hb dJ15_numberOfTrailingZeros_72 rfl ?_
            refine lv_topi (fun x_11 ex_11 => ?_)
            have hw := hw x_11 ex_11
            refine lv_istore_n (i := 0) (lv' := [(0, .int x_11), (1, .int x_10)]) hx hb dJ15_numberOfTrailingZeros_73 rfl hl (by decide) (by first | rfl | simp [List.filter_cons, z_cat, z_catI, z_catJ, z_catF, z_catD]) (fun ls hl => ?_)
            exact hJ_74 x_11 x_10 _ _ _ hw hl hH hz hS
        refine lv_icmp_le (tgt := 62) hx hb dJ15_numberOfTrailingZeros_52 (by decide) (fun hc => ?_) (fun hc => ?_)
        · have hw := hw.1 hc
          exact hJ_62 x_4 x_5 _ _ _ hw hl hH hz hS
        · have hw := hw.2 hc
          obtain ⟨x_12, ex_12⟩ : ∃ y : Int32, y = x_5 + (4 : Int32) := ⟨_, rfl⟩
          have hw := hw x_12 ex_12
          refine lv_iinc (v := x_12) (lv' := [(1, .int x_12), (0, .int x_4)]) hx hb dJ15_numberOfTrailingZeros_55 hl (k := 1) rfl (by rw [ex_12]; rfl) (by decide) (by first | rfl | simp [List.filter_cons, z_cat, z_catI, z_catJ, z_catF, z_catD]) (fun ls hl => ?_)
          refine lv_iload_n hx hb dJ15_numberOfTrailingZeros_58 rfl (lv_at hl 1 rfl) ?_
          refine lv_iconst (v := (4 : Int32)) hx hb dJ15_numberOfTrailingZeros_59 (by decide) ?_
          refine lv_iushr hx hb dJ15_numberOfTrailingZeros_60 rfl ?_
          refine lv_topi (fun x_13 ex_13 => ?_)
          have hw := hw x_13 ex_13
          refine lv_istore_n (i := 0) (lv' := [(0, .int x_13), (1, .int x_12)]) hx hb dJ15_numberOfTrailingZeros_61 rfl hl (by decide) (by first | rfl | simp [List.filter_cons, z_cat, z_catI, z_catJ, z_catF, z_catD]) (fun ls hl => ?_)
          exact hJ_62 x_13 x_12 _ _ _ hw hl hH hz hS
      refine lv_icmp_le (tgt := 49) hx hb dJ15_numberOfTrailingZeros_38 (by decide) (fun hc => ?_) (fun hc => ?_)
      · have hw := hw.1 hc
        exact hJ_49 x_2 x_3 _ _ _ hw hl hH hz hS
      · have hw := hw.2 hc
        obtain ⟨x_14, ex_14⟩ : ∃ y : Int32, y = x_3 + (8 : Int32) := ⟨_, rfl⟩
        have hw := hw x_14 ex_14
        refine lv_iinc (v := x_14) (lv' := [(1, .int x_14), (0, .int x_2)]) hx hb dJ15_numberOfTrailingZeros_41 hl (k := 1) rfl (by rw [ex_14]; rfl) (by decide) (by first | rfl | simp [List.filter_cons, z_cat, z_catI, z_catJ, z_catF, z_catD]) (fun ls hl => ?_)
        refine lv_iload_n hx hb dJ15_numberOfTrailingZeros_44 rfl (lv_at hl 1 rfl) ?_
        refine lv_bipush (v := (8 : Int32)) hx hb dJ15_numberOfTrailingZeros_45 (by decide) ?_
        refine lv_iushr hx hb dJ15_numberOfTrailingZeros_47 rfl ?_
        refine lv_topi (fun x_15 ex_15 => ?_)
        have hw := hw x_15 ex_15
        refine lv_istore_n (i := 0) (lv' := [(0, .int x_15), (1, .int x_14)]) hx hb dJ15_numberOfTrailingZeros_48 rfl hl (by decide) (by first | rfl | simp [List.filter_cons, z_cat, z_catI, z_catJ, z_catF, z_catD]) (fun ls hl => ?_)
        exact hJ_49 x_15 x_14 _ _ _ hw hl hH hz hS
    refine lv_icmp_le (tgt := 34) hx hb dJ15_numberOfTrailingZeros_23 (by decide) (fun hc => ?_) (fun hc => ?_)
    · have hw := hw.1 hc
      exact hJ_34 x_1 (1 : Int32) _ _ _ hw (lv_sub hl [1, 0] rfl) hH hz hS
    · have hw := hw.2 hc
      obtain ⟨x_16, ex_16⟩ : ∃ y : Int32, y = (1 : Int32) + (16 : Int32) := ⟨_, rfl⟩
      have hw := hw x_16 ex_16
      refine lv_iinc (v := x_16) (lv' := [(1, .int x_16), (0, .int x_1)]) hx hb dJ15_numberOfTrailingZeros_26 hl (k := 0) rfl (by rw [ex_16]; rfl) (by decide) (by first | rfl | simp [List.filter_cons, z_cat, z_catI, z_catJ, z_catF, z_catD]) (fun ls hl => ?_)
      refine lv_iload_n hx hb dJ15_numberOfTrailingZeros_29 rfl (lv_at hl 1 rfl) ?_
      refine lv_bipush (v := (16 : Int32)) hx hb dJ15_numberOfTrailingZeros_30 (by decide) ?_
      refine lv_iushr hx hb dJ15_numberOfTrailingZeros_32 rfl ?_
      refine lv_topi (fun x_17 ex_17 => ?_)
      have hw := hw x_17 ex_17
      refine lv_istore_n (i := 0) (lv' := [(0, .int x_17), (1, .int x_16)]) hx hb dJ15_numberOfTrailingZeros_33 rfl hl (by decide) (by first | rfl | simp [List.filter_cons, z_cat, z_catI, z_catJ, z_catF, z_catD]) (fun ls hl => ?_)
      exact hJ_34 x_17 x_16 _ _ _ hw hl hH hz hS
  · have hw := hw.2 hc
    refine lv_iload_n hx hb dJ15_numberOfTrailingZeros_12 rfl (lv_at hl 0 rfl) ?_
    refine lv_bipush (v := (32 : Int32)) hx hb dJ15_numberOfTrailingZeros_13 (by decide) ?_
    refine lv_iand hx hb dJ15_numberOfTrailingZeros_15 ?_
    exact zr_iret hk hr hH hz hS hw (Nat.le_of_ble_eq_true rfl) (Nat.le_of_ble_eq_true rfl) dJ15_numberOfTrailingZeros_16
def wp_J16_init (l : Launch) (g : zG) (d : Nat) (h0 : Nat) (hp : zHp) (nx : Nat) (Post : zHp → Nat → Prop) : Prop :=
  (Post hp nx)
set_option maxHeartbeats 40000000 in
theorem met_J16_init {l : Launch} {g : zG} {d : Nat} {h0 : Nat} {hp : zHp} {nx : Nat} {Post : zHp → Nat → Prop} (hw : wp_J16_init l g d h0 hp nx Post) : zMt l g yJ16_init cJ16_init 1 none (d + 1) 0 0 [.ref h0] hp nx (zQv g Post) := by
  refine z_start (by decide) (Nat.le_of_ble_eq_true rfl) ?_
  intro p e s m below meth c hk hr hin hH hz ls hl
  have hx := hk.1.1
  have hb := hk.1.2.1
  have hown := hk.1.2.2.2.1
  have hts := hk.1.2.2.2.2
  have hS : va_S (zAd g) s.heap s.heap [] := va_S.rf
  have hl : lv_has ls 1 [(0, va_rf (some h0))] := hl
  unfold wp_J16_init at hw
  refine zr_aload_n (r := some h0) hx hb dJ16_init_0 rfl (lv_at hl 0 rfl) ?_
  refine W.objInit (a := h0) hx hb hown (hts _ q632) (hts _ q206) (hts _ q207) rfl (by rw [hk.1.2.2.1]; exact hl.1) rfl dJ16_init_1 (Nat.le_add_left 1 d) (Nat.le_trans (Nat.le_of_ble_eq_true rfl : _ ≤ 64) (by show 64 ≤ 64 * (d + 1); omega)) ?_
  refine W.eq (g2 := F0 m 4 ls []) rfl ?_
  exact zr_vret hk hr hH hz hS hw (Nat.le_of_ble_eq_true rfl) (Nat.le_of_ble_eq_true rfl) dJ16_init_4
theorem fp_J17_3 {ci : Nat} (h : ci ∈ [35]) : zFp "java/util/ArrayDeque" 3 ci 0 (.array (.object "java/lang/Object")) := by
  simp only [List.mem_cons, List.not_mem_nil, or_false] at h
  rcases h with rfl
  · exact ⟨RJ17, TJ17, 3, rfl, by decide, q636, rfl, by decide +kernel⟩
def wp_J17_init (l : Launch) (g : zG) (d : Nat) (mc ms : Nat) (h0 : Nat) (x1 : Int32) (hp : zHp) (nx : Nat) (Post : zHp → Nat → Prop) : Prop :=
  (0 ≤ mc ∧ 0 ≤ ms ∧ zMt l g yJ16_init cJ16_init 1 none d 0 0 (.ref h0 :: []) hp nx (zQv g fun hp_1 nx_2 =>
  (∃ P_28 : (Option Nat) → Int32 → zHp → Nat → Nat → Nat → Prop, (∀ (r_3 : Option Nat) (x_4 : Int32) (hp_5 : zHp) (nx_6 : Nat) (kc_7 : Nat) (ks_8 : Nat), P_28 r_3 x_4 hp_5 nx_6 kc_7 ks_8 →
  (znq g mc ms hp_5 nx_6 kc_7 ks_8 13 x_4 fun hp_9 =>
  ∀ nx_10 kc_11 ks_12 : Nat, nx_10 = (nx_6 + 1) → kc_11 = (kc_7 + 1) → ks_12 = (ks_8 + x_4.toNatClampNeg) →
  (zpt g hp_9 r_3 [35] 0 (va_rf (some nx_6)) fun hp_16 =>
  (kc_11 ≤ mc ∧ ks_12 ≤ ms ∧ Post hp_16 nx_10)))) ∧
  (((1 : Int32) ≤ x1 →
  ((x1 = (2147483647 : Int32) →
  P_28 (some h0) (2147483647 : Int32) hp_1 nx_2 0 0) ∧
  (¬ x1 = (2147483647 : Int32) →
  P_28 (some h0) (x1 + (1 : Int32)) hp_1 nx_2 0 0))) ∧
  (¬ (1 : Int32) ≤ x1 →
  P_28 (some h0) (1 : Int32) hp_1 nx_2 0 0)))))
set_option maxHeartbeats 40000000 in
theorem met_J17_init {l : Launch} {g : zG} {d : Nat} {mc ms : Nat} {h0 : Nat} {x1 : Int32} {hp : zHp} {nx : Nat} {Post : zHp → Nat → Prop} (hw : wp_J17_init l g d mc ms h0 x1 hp nx Post) : zMt l g yJ17_init cJ17_init 2 none (d + 1) mc ms [.ref h0, .int x1] hp nx (zQv g Post) := by
  refine z_start (by decide) (Nat.le_of_ble_eq_true rfl) ?_
  intro p e s m below meth c hk hr hin hH hz ls hl
  have hx := hk.1.1
  have hb := hk.1.2.1
  have hown := hk.1.2.2.2.1
  have hts := hk.1.2.2.2.2
  have hS : va_S (zAd g) s.heap s.heap [] := va_S.rf
  have hl : lv_has ls 2 [(0, va_rf (some h0)), (1, .int x1)] := hl
  unfold wp_J17_init at hw
  refine zr_aload_n (r := some h0) hx hb dJ17_init_0 rfl (lv_at hl 0 rfl) ?_
  obtain ⟨hcl, hsl, hw⟩ := hw
  refine zr_callv (zw_runI (As := []) (r := some h0) hk hH hz hS hl.1 rfl hw (cwI 0 hts (lw_meth q631) rfl rfl rfl (hts _ q150) (hts _ q629) (hts _ q630) rfl (by decide +kernel) (z_room (Nat.le_of_ble_eq_true rfl))) rfl rfl (Nat.le_of_ble_eq_true rfl) dJ17_init_1 ⟨hcl, hsl⟩) hS (fun hp_1 nx_2 hw H locs hH hz hS => ?_)
  refine zr_aload_n (r := some h0) hx hb dJ17_init_4 rfl (lv_at hl 0 rfl) ?_
  refine lv_iload_n hx hb dJ17_init_5 rfl (lv_at hl 1 rfl) ?_
  refine lv_iconst (v := (1 : Int32)) hx hb dJ17_init_6 (by decide) ?_
  obtain ⟨P_28, hP_28, hw⟩ := hw
  have hJ_28 : ∀ (r_3 : Option Nat) (x_4 : Int32) (hp_5 : zHp) (nx_6 : Nat) (kc_7 : Nat) (ks_8 : Nat) (H : Heap) (locs : List Loc) (ls : Array Slot), P_28 r_3 x_4 hp_5 nx_6 kc_7 ks_8 → lv_has ls 2 [(0, va_rf (some h0)), (1, .int x1)] → zHd g hp_5 H → H.size = nx_6 → va_S (zAd g) s.heap H locs → W p l e (zrm (d + 1) mc ms) s m ([.ref h0, .int x1] : List Value).toArray below meth c H locs kc_7 ks_8 (MQ below (zQv g Post) ([.ref h0, .int x1] : List Value).toArray s mc ms (zAd g)) (F0 m 28 ls [.int x_4, va_rf r_3]) := by
    intro r_3 x_4 hp_5 nx_6 kc_7 ks_8 H locs ls hw hl hH hz hS
    have hw := hP_28 r_3 x_4 hp_5 nx_6 kc_7 ks_8 hw
    obtain ⟨hn0, hn1, hcl, hsl, hw⟩ := hw
    refine zx_newq hk hH hz hS 13 (C := "java/lang/Object") q634 (List.mem_of_getElem? (i := 6) rfl) rfl hn0 hn1 hcl hsl dJ17_init_28 (fun H hH hz hS hlt hnb => ?_)
    have hw := hw hlt hnb
    generalize va_up hp_5 nx_6 _ = hp_9 at hH hw
    obtain ⟨kc_11, ekc⟩ : ∃ k, k = (kc_7 + 1) := ⟨_, rfl⟩
    obtain ⟨ks_12, eks⟩ : ∃ k, k = (ks_8 + x_4.toNatClampNeg) := ⟨_, rfl⟩
    have hw := hw _ _ _ rfl ekc eks
    refine W.widen (Nat.le_of_eq ekc.symm) (Nat.le_of_eq eks.symm) ?_
    clear ekc eks
    generalize (nx_6 + 1) = nx_10 at hz hw
    obtain ⟨a_13, ci_14, fs_15, hp_16, er, he, hc, hA, hkl, eh, hw⟩ := zpt_e hw
    refine zw_put hk hH hz hS er he hA hkl eh (fp_J17_3 hc) (z_narA _ _) (z_fitA _ _) dJ17_init_31 (fun H locs hH hz hS => ?_)
    obtain ⟨hkc, hks, hw⟩ := hw
    exact zr_vret hk hr hH hz hS hw hkc hks dJ17_init_34
  refine lv_icmp_ge (tgt := 14) hx hb dJ17_init_7 (by decide) (fun hc => ?_) (fun hc => ?_)
  · have hw := hw.1 hc
    refine lv_iload_n hx hb dJ17_init_14 rfl (lv_at hl 1 rfl) ?_
    refine lv_ldc hx hb hown (hts _ q633) dJ17_init_15 ?_
    refine lv_icmp_ne (tgt := 25) hx hb dJ17_init_17 (by decide) (fun hc => ?_) (fun hc => ?_)
    · have hw := hw.2 hc
      refine lv_iload_n hx hb dJ17_init_25 rfl (lv_at hl 1 rfl) ?_
      refine lv_iconst (v := (1 : Int32)) hx hb dJ17_init_26 (by decide) ?_
      refine lv_iadd hx hb dJ17_init_27 ?_
      exact hJ_28 (some h0) (x1 + (1 : Int32)) hp_1 nx_2 0 0 _ _ _ hw hl hH hz hS
    · have hw := hw.1 hc
      refine lv_ldc hx hb hown (hts _ q633) dJ17_init_20 ?_
      refine lv_goto (tgt := 28) hx hb dJ17_init_22 (by decide) ?_
      exact hJ_28 (some h0) (2147483647 : Int32) hp_1 nx_2 0 0 _ _ _ hw hl hH hz hS
  · have hw := hw.2 hc
    refine lv_iconst (v := (1 : Int32)) hx hb dJ17_init_10 (by decide) ?_
    refine lv_goto (tgt := 28) hx hb dJ17_init_11 (by decide) ?_
    exact hJ_28 (some h0) (1 : Int32) hp_1 nx_2 0 0 _ _ _ hw hl hH hz hS
theorem fk_J17_3 {ci : Nat} (h : ci ∈ [35]) : zFk "java/util/ArrayDeque" 3 ci 0 := by
  simp only [List.mem_cons, List.not_mem_nil, or_false] at h
  rcases h with rfl
  · exact ⟨RJ17, TJ17, 3, rfl, by decide, q636⟩
theorem fk_J17_24 {ci : Nat} (h : ci ∈ [35]) : zFk "java/util/ArrayDeque" 24 ci 1 := by
  simp only [List.mem_cons, List.not_mem_nil, or_false] at h
  rcases h with rfl
  · exact ⟨RJ17, TJ17, 3, rfl, by decide, q637⟩
theorem fk_J17_20 {ci : Nat} (h : ci ∈ [35]) : zFk "java/util/ArrayDeque" 20 ci 2 := by
  simp only [List.mem_cons, List.not_mem_nil, or_false] at h
  rcases h with rfl
  · exact ⟨RJ17, TJ17, 3, rfl, by decide, q638⟩
theorem fp_J17_20 {ci : Nat} (h : ci ∈ [35]) : zFp "java/util/ArrayDeque" 20 ci 2 .int := by
  simp only [List.mem_cons, List.not_mem_nil, or_false] at h
  rcases h with rfl
  · exact ⟨RJ17, TJ17, 3, rfl, by decide, q638, rfl, by decide +kernel⟩
theorem fp_J17_24 {ci : Nat} (h : ci ∈ [35]) : zFp "java/util/ArrayDeque" 24 ci 1 .int := by
  simp only [List.mem_cons, List.not_mem_nil, or_false] at h
  rcases h with rfl
  · exact ⟨RJ17, TJ17, 3, rfl, by decide, q637, rfl, by decide +kernel⟩
def wp_J17_clear (l : Launch) (g : zG) (d : Nat) (h0 : Nat) (hp : zHp) (nx : Nat) (Post : zHp → Nat → Prop) : Prop :=
  (zgR hp (some h0) [35] 0 fun r_4 =>
  (zgI hp (some h0) [35] 1 fun x_8 =>
  (zgI hp (some h0) [35] 2 fun x_12 =>
  (zMt l g yJ17_circularClear cJ17_circularClear 4 none d 0 0 [va_rf r_4, .int x_8, .int x_12] hp nx (zQv g fun hp_13 nx_14 =>
  (zpt g hp_13 (some h0) [35] 2 (.int (0 : Int32)) fun hp_18 =>
  (zpt g hp_18 (some h0) [35] 1 (.int (0 : Int32)) fun hp_22 =>
  (Post hp_22 nx_14))))))))
set_option maxHeartbeats 40000000 in
theorem met_J17_clear {l : Launch} {g : zG} {d : Nat} {h0 : Nat} {hp : zHp} {nx : Nat} {Post : zHp → Nat → Prop} (hw : wp_J17_clear l g d h0 hp nx Post) : zMt l g yJ17_clear cJ17_clear 1 none (d + 1) 0 0 [.ref h0] hp nx (zQv g Post) := by
  refine z_start (by decide) (Nat.le_of_ble_eq_true rfl) ?_
  intro p e s m below meth c hk hr hin hH hz ls hl
  have hx := hk.1.1
  have hb := hk.1.2.1
  have hown := hk.1.2.2.2.1
  have hts := hk.1.2.2.2.2
  have hS : va_S (zAd g) s.heap s.heap [] := va_S.rf
  have hl : lv_has ls 1 [(0, va_rf (some h0))] := hl
  unfold wp_J17_clear at hw
  refine zr_aload_n (r := some h0) hx hb dJ17_clear_0 rfl (lv_at hl 0 rfl) ?_
  obtain ⟨a_1, ci_2, fs_3, r_4, er, he, hc, hv, hw⟩ := zgR_e hw
  refine zw_get hk hH er he hv (fk_J17_3 hc) dJ17_clear_1 ?_
  refine zr_aload_n (r := some h0) hx hb dJ17_clear_4 rfl (lv_at hl 0 rfl) ?_
  obtain ⟨a_5, ci_6, fs_7, x_8, er, he, hc, hv, hw⟩ := zgI_e hw
  refine zw_get hk hH er he hv (fk_J17_24 hc) dJ17_clear_5 ?_
  refine zr_aload_n (r := some h0) hx hb dJ17_clear_8 rfl (lv_at hl 0 rfl) ?_
  obtain ⟨a_9, ci_10, fs_11, x_12, er, he, hc, hv, hw⟩ := zgI_e hw
  refine zw_get hk hH er he hv (fk_J17_20 hc) dJ17_clear_9 ?_
  refine zr_callv (zr_runS (As := [va_rf r_4, .int x_8, .int x_12]) hk hH hz hS hl.1 hw (va_cwS 3 hts (lw_S q693 q694 q151 q695) rfl rfl rfl (by decide +kernel) (z_room (Nat.le_of_ble_eq_true rfl))) rfl rfl (Nat.le_of_ble_eq_true rfl) dJ17_clear_12 ⟨Nat.le_of_ble_eq_true rfl, Nat.le_of_ble_eq_true rfl⟩) hS (fun hp_13 nx_14 hw H locs hH hz hS => ?_)
  refine zr_aload_n (r := some h0) hx hb dJ17_clear_15 rfl (lv_at hl 0 rfl) ?_
  refine zr_aload_n (r := some h0) hx hb dJ17_clear_16 rfl (lv_at hl 0 rfl) ?_
  refine lv_iconst (v := (0 : Int32)) hx hb dJ17_clear_17 (by decide) ?_
  refine lv_dup_x1 hx hb dJ17_clear_18 rfl (z_cat _) ?_
  obtain ⟨a_15, ci_16, fs_17, hp_18, er, he, hc, hA, hkl, eh, hw⟩ := zpt_e hw
  refine zw_put hk hH hz hS er he hA hkl eh (fp_J17_20 hc) rfl rfl dJ17_clear_19 (fun H locs hH hz hS => ?_)
  obtain ⟨a_19, ci_20, fs_21, hp_22, er, he, hc, hA, hkl, eh, hw⟩ := zpt_e hw
  refine zw_put hk hH hz hS er he hA hkl eh (fp_J17_24 hc) rfl rfl dJ17_clear_22 (fun H locs hH hz hS => ?_)
  exact zr_vret hk hr hH hz hS hw (Nat.le_of_ble_eq_true rfl) (Nat.le_of_ble_eq_true rfl) dJ17_clear_25
theorem cw_java_lang_Object : ∀ ci ∈ [0, 1, 2, 3, 4, 5, 6, 7, 8, 9, 10, 11, 12, 14, 16, 17, 18, 19, 20, 21, 22, 23, 24, 25, 26, 27, 28, 29, 30, 31, 32, 33, 34, 35, 36, 37, 38, 39, 40, 41], zCw "java/lang/Object" ci := by
  intro ci h
  simp only [List.mem_cons, List.not_mem_nil, or_false] at h
  rcases h with rfl | rfl | rfl | rfl | rfl | rfl | rfl | rfl | rfl | rfl | rfl | rfl | rfl | rfl | rfl | rfl | rfl | rfl | rfl | rfl | rfl | rfl | rfl | rfl | rfl | rfl | rfl | rfl | rfl | rfl | rfl | rfl | rfl | rfl | rfl | rfl | rfl | rfl | rfl | rfl
  · exact ⟨RX0, TX0, 30, rfl, Or.inl q3397⟩
  · exact ⟨RX1, TX1, 13, rfl, Or.inl q3393⟩
  · exact ⟨RX2, TX2, 3, rfl, Or.inl q3391⟩
  · exact ⟨RX3, TX3, 1, rfl, Or.inl q3396⟩
  · exact ⟨RX4, TX4, 7, rfl, Or.inl q3406⟩
  · exact ⟨RX5, TX5, 76, rfl, Or.inl q3407⟩
  · exact ⟨RX6, TX6, 3, rfl, Or.inl q3408⟩
  · exact ⟨RX7, TX7, 3, rfl, Or.inl q3409⟩
  · exact ⟨RX8, TX8, 3, rfl, Or.inl q3410⟩
  · exact ⟨RX9, TX9, 3, rfl, Or.inl q3411⟩
  · exact ⟨RX10, TX10, 3, rfl, Or.inl q3412⟩
  · exact ⟨RX11, TX11, 10, rfl, Or.inl q3414⟩
  · exact ⟨RX12, TX12, 7, rfl, Or.inl q3416⟩
  · exact ⟨RX14, TX14, 5, rfl, Or.inl q3417⟩
  · exact ⟨RX16, TX16, 5, rfl, Or.inl q3418⟩
  · exact ⟨RX17, TX17, 6, rfl, Or.inl q3419⟩
  · exact ⟨RX18, TX18, 3, rfl, Or.inl q3422⟩
  · exact ⟨RX19, TX19, 4, rfl, Or.inl q3423⟩
  · exact ⟨RX20, TX20, 5, rfl, Or.inl q3424⟩
  · exact ⟨RX21, TX21, 6, rfl, Or.inl q3425⟩
  · exact ⟨RX22, TX22, 4, rfl, Or.inl q3426⟩
  · exact ⟨RX23, TX23, 3, rfl, Or.inl q3427⟩
  · exact ⟨RX24, TX24, 3, rfl, Or.inl q3428⟩
  · exact ⟨RX25, TX25, 3, rfl, Or.inl q3429⟩
  · exact ⟨RX26, TX26, 5, rfl, Or.inl q3432⟩
  · exact ⟨RX27, TX27, 6, rfl, Or.inl q3430⟩
  · exact ⟨RX28, TX28, 3, rfl, Or.inl q3431⟩
  · exact ⟨RX29, TX29, 6, rfl, Or.inl q3433⟩
  · exact ⟨RX30, TX30, 3, rfl, Or.inl q3395⟩
  · exact ⟨RX31, TX31, 4, rfl, Or.inl q3392⟩
  · exact ⟨RX32, TX32, 2, rfl, Or.inl q3435⟩
  · exact ⟨RX33, TX33, 11, rfl, Or.inl q3437⟩
  · exact ⟨RJ0, TJ0, 3, rfl, Or.inl q3394⟩
  · exact ⟨RJ17, TJ17, 3, rfl, Or.inl q3401⟩
  · exact ⟨RJ27, TJ27, 4, rfl, Or.inl q3415⟩
  · exact ⟨RJ29, TJ29, 3, rfl, Or.inl q3420⟩
  · exact ⟨RJ21, TJ21, 5, rfl, Or.inl q3434⟩
  · exact ⟨RJ6, TJ6, 4, rfl, Or.inl q3399⟩
  · exact ⟨RJ7, TJ7, 4, rfl, Or.inl q3400⟩
  · exact ⟨RJ15, TJ15, 1, rfl, Or.inl q3403⟩
def wp_J17_circularClear (l : Launch) (g : zG) (d : Nat) (r0 : Option Nat) (x1 : Int32) (x2 : Int32) (hp : zHp) (nx : Nat) (Post : zHp → Nat → Prop) : Prop :=
  (∃ P_11 : Int32 → Int32 → zHp → Prop, (∀ (x_1 : Int32) (x_2 : Int32) (hp_3 : zHp), P_11 x_1 x_2 hp_3 →
  (∃ I_12 : Nat → Int32 → Int32 → zHp → Prop, (∃ n_15, I_12 n_15 x_1 x_2 hp_3) ∧ ∀ (n_7 : Nat) (x_4 : Int32) (x_5 : Int32) (hp_6 : zHp), I_12 n_7 x_4 x_5 hp_6 →
  ((x_5 ≤ x_4 →
  ((x_5 = x2 →
  (Post hp_6 nx)) ∧
  (¬ x_5 = x2 →
  (∃ k_8, k_8 < n_7 ∧ I_12 k_8 (0 : Int32) x2 hp_6)))) ∧
  (¬ x_5 ≤ x_4 →
  (zaR (g.2.1 13) hp_6 r0 fun a_9 n_10 f_11 => vp_in x_4 n_10 ∧ zB g ≤ a_9 ∧ zCa hp_6 none [0, 1, 2, 3, 4, 5, 6, 7, 8, 9, 10, 11, 12, 14, 16, 17, 18, 19, 20, 21, 22, 23, 24, 25, 26, 27, 28, 29, 30, 31, 32, 33, 34, 35, 36, 37, 38, 39, 40, 41] ∧ ∀ hp_12 : zHp, hp_12 = va_up hp_6 a_9 (some (.inl (g.2.1 13, n_10, .inr (.inr (.inr (.inr (va_up f_11 x_4.toNatClampNeg none))))))) →
  (∀ x_13 : Int32, x_13 = x_4 + (1 : Int32) →
  (∃ k_14, k_14 < n_7 ∧ I_12 k_14 x_13 x_5 hp_12))))))) ∧
  ((x2 < x1 →
  (zln (g.2.1 13) hp r0 fun x_18 =>
  P_11 x1 x_18 hp)) ∧
  (¬ x2 < x1 →
  P_11 x1 x2 hp)))
set_option maxHeartbeats 40000000 in
theorem met_J17_circularClear {l : Launch} {g : zG} {d : Nat} {r0 : Option Nat} {x1 : Int32} {x2 : Int32} {hp : zHp} {nx : Nat} {Post : zHp → Nat → Prop} (hw : wp_J17_circularClear l g d r0 x1 x2 hp nx Post) : zMt l g yJ17_circularClear cJ17_circularClear 4 none (d + 1) 0 0 [va_rf r0, .int x1, .int x2] hp nx (zQv g Post) := by
  refine z_start (by decide) (by cases r0 <;> exact Nat.le_of_ble_eq_true rfl) ?_
  intro p e s m below meth c hk hr hin hH hz ls hl
  have hx := hk.1.1
  have hb := hk.1.2.1
  have hown := hk.1.2.2.2.1
  have hts := hk.1.2.2.2.2
  have hS : va_S (zAd g) s.heap s.heap [] := va_S.rf
  have hl : lv_has ls 4 [(0, va_rf r0), (1, .int x1), (2, .int x2)] := by cases r0 <;> exact hl
  unfold wp_J17_circularClear at hw
  refine lv_iload_n hx hb dJ17_circularClear_0 rfl (lv_at hl 1 rfl) ?_
  refine lv_iload_n hx hb dJ17_circularClear_1 rfl (lv_at hl 2 rfl) ?_
  obtain ⟨P_11, hP_11, hw⟩ := hw
  have hJ_11 : ∀ (x_1 : Int32) (x_2 : Int32) (hp_3 : zHp) (H : Heap) (locs : List Loc) (ls : Array Slot), P_11 x_1 x_2 hp_3 → lv_has ls 4 [(0, va_rf r0), (1, .int x_1), (2, .int x2)] → zHd g hp_3 H → H.size = nx → va_S (zAd g) s.heap H locs → W p l e (zrm (d + 1) 0 0) s m ([va_rf r0, .int x1, .int x2] : List Value).toArray below meth c H locs 0 0 (MQ below (zQv g Post) ([va_rf r0, .int x1, .int x2] : List Value).toArray s 0 0 (zAd g)) (F0 m 11 ls [.int x_2]) := by
    intro x_1 x_2 hp_3 H locs ls hw hl hH hz hS
    have hw := hP_11 x_1 x_2 hp_3 hw
    refine lv_istore_n (i := 3) (lv' := [(3, .int x_2), (0, va_rf r0), (1, .int x_1), (2, .int x2)]) hx hb dJ17_circularClear_11 rfl hl (by decide) (by first | rfl | simp [List.filter_cons, z_cat, z_catI, z_catJ, z_catF, z_catD]) (fun ls hl => ?_)
    obtain ⟨I_12, ⟨n_15, hI⟩, hB_12⟩ := hw
    have hL_12 : ∀ (n_7 : Nat) (x_4 : Int32) (x_5 : Int32) (hp_6 : zHp) (H : Heap) (locs : List Loc) (ls : Array Slot), I_12 n_7 x_4 x_5 hp_6 → lv_has ls 4 [(0, va_rf r0), (1, .int x_4), (2, .int x2), (3, .int x_5)] → zHd g hp_6 H → H.size = nx → va_S (zAd g) s.heap H locs → W p l e (zrm (d + 1) 0 0) s m ([va_rf r0, .int x1, .int x2] : List Value).toArray below meth c H locs 0 0 (MQ below (zQv g Post) ([va_rf r0, .int x1, .int x2] : List Value).toArray s 0 0 (zAd g)) (F0 m 12 ls []) := by
      intro n_7
      induction n_7 using Nat.strongRecOn with
      | _ n_7 ih_12 =>
        intro x_4 x_5 hp_6 H locs ls hw hl hH hz hS
        have hw := hB_12 n_7 x_4 x_5 hp_6 hw
        refine lv_iload_n hx hb dJ17_circularClear_12 rfl (lv_at hl 1 rfl) ?_
        refine lv_iload_n hx hb dJ17_circularClear_13 rfl (lv_at hl 3 rfl) ?_
        refine lv_icmp_ge (tgt := 27) hx hb dJ17_circularClear_14 (by decide) (fun hc => ?_) (fun hc => ?_)
        · have hw := hw.1 hc
          refine lv_iload_n hx hb dJ17_circularClear_27 rfl (lv_at hl 3 rfl) ?_
          refine lv_iload_n hx hb dJ17_circularClear_28 rfl (lv_at hl 2 rfl) ?_
          refine lv_icmp_ne (tgt := 35) hx hb dJ17_circularClear_29 (by decide) (fun hc => ?_) (fun hc => ?_)
          · have hw := hw.2 hc
            refine lv_iconst (v := (0 : Int32)) hx hb dJ17_circularClear_35 (by decide) ?_
            refine lv_istore_n (i := 1) (lv' := [(1, .int (0 : Int32)), (0, va_rf r0), (2, .int x2), (3, .int x_5)]) hx hb dJ17_circularClear_36 rfl hl (by decide) (by first | rfl | simp [List.filter_cons, z_cat, z_catI, z_catJ, z_catF, z_catD]) (fun ls hl => ?_)
            refine lv_iload_n hx hb dJ17_circularClear_37 rfl (lv_at hl 2 rfl) ?_
            refine lv_istore_n (i := 3) (lv' := [(3, .int x2), (1, .int (0 : Int32)), (0, va_rf r0), (2, .int x2)]) hx hb dJ17_circularClear_38 rfl hl (by decide) (by first | rfl | simp [List.filter_cons, z_cat, z_catI, z_catJ, z_catF, z_catD]) (fun ls hl => ?_)
            refine lv_goto (tgt := 12) hx hb dJ17_circularClear_39 (by decide) ?_
            obtain ⟨k_8, hlt, hw⟩ := hw
            exact ih_12 k_8 hlt (0 : Int32) x2 hp_6 _ _ _ hw (lv_sub hl [2, 1, 3, 0] rfl) hH hz hS
          · have hw := hw.1 hc
            refine lv_goto (tgt := 42) hx hb dJ17_circularClear_32 (by decide) ?_
            exact zr_vret hk hr hH hz hS hw (Nat.le_of_ble_eq_true rfl) (Nat.le_of_ble_eq_true rfl) dJ17_circularClear_42
        · have hw := hw.2 hc
          refine zr_aload_n (r := r0) hx hb dJ17_circularClear_17 rfl (lv_at hl 0 rfl) ?_
          refine lv_iload_n hx hb dJ17_circularClear_18 rfl (lv_at hl 1 rfl) ?_
          refine zx_null hx hb dJ17_circularClear_19 ?_
          obtain ⟨a_9, n_10, f_11, er, he, hi, hA, hca, hw⟩ := zaR_e hw
          obtain ⟨hp_12, eh⟩ : ∃ y : zHp, y = va_up hp_6 a_9 (some (.inl (g.2.1 13, n_10, .inr (.inr (.inr (.inr (va_up f_11 x_4.toNatClampNeg none))))))) := ⟨_, rfl⟩
          have hw := hw hp_12 eh
          refine zw_aast (v := none) (r := r0) hk hH hz hS 13 er he rfl hi hA hca cw_java_lang_Object eh dJ17_circularClear_20 (fun H locs hH hz hS => ?_)
          obtain ⟨x_13, ex_13⟩ : ∃ y : Int32, y = x_4 + (1 : Int32) := ⟨_, rfl⟩
          have hw := hw x_13 ex_13
          refine lv_iinc (v := x_13) (lv' := [(1, .int x_13), (0, va_rf r0), (2, .int x2), (3, .int x_5)]) hx hb dJ17_circularClear_21 hl (k := 1) rfl (by rw [ex_13]; rfl) (by decide) (by first | rfl | simp [List.filter_cons, z_cat, z_catI, z_catJ, z_catF, z_catD]) (fun ls hl => ?_)
          refine lv_goto (tgt := 12) hx hb dJ17_circularClear_24 (by decide) ?_
          obtain ⟨k_14, hlt, hw⟩ := hw
          exact ih_12 k_14 hlt x_13 x_5 hp_12 _ _ _ hw (lv_sub hl [1, 0, 2, 3] rfl) hH hz hS
    exact hL_12 n_15 x_1 x_2 hp_3 _ _ _ hI (lv_sub hl [1, 2, 3, 0] rfl) hH hz hS
  refine lv_icmp_gt (tgt := 9) hx hb dJ17_circularClear_2 (by decide) (fun hc => ?_) (fun hc => ?_)
  · have hw := hw.1 hc
    refine zr_aload_n (r := r0) hx hb dJ17_circularClear_9 rfl (lv_at hl 0 rfl) ?_
    obtain ⟨a_16, v_17, er, he, hw⟩ := zln_e hw
    refine zw_alen hk hH 13 er he rfl dJ17_circularClear_10 ?_
    generalize Int32.ofNat v_17.1 = x_18 at hw ⊢
    exact hJ_11 x1 x_18 hp _ _ _ hw hl hH hz hS
  · have hw := hw.2 hc
    refine lv_iload_n hx hb dJ17_circularClear_5 rfl (lv_at hl 2 rfl) ?_
    refine lv_goto (tgt := 11) hx hb dJ17_circularClear_6 (by decide) ?_
    exact hJ_11 x1 x2 hp _ _ _ hw hl hH hz hS
def wp_J17_addLast (l : Launch) (g : zG) (d : Nat) (mc ms : Nat) (h0 : Nat) (r1 : Option Nat) (hp : zHp) (nx : Nat) (Post : zHp → Nat → Prop) : Prop :=
  ((r1 = none →
  False) ∧
  (¬ r1 = none →
  (zgR hp (some h0) [35] 0 fun r_4 =>
  (zgI hp (some h0) [35] 2 fun x_8 =>
  (zaR (g.2.1 13) hp r_4 fun a_9 n_10 f_11 => vp_in x_8 n_10 ∧ zB g ≤ a_9 ∧ zCa hp r1 [0, 1, 2, 3, 4, 5, 6, 7, 8, 9, 10, 11, 12, 14, 16, 17, 18, 19, 20, 21, 22, 23, 24, 25, 26, 27, 28, 29, 30, 31, 32, 33, 34, 35, 36, 37, 38, 39, 40, 41] ∧ ∀ hp_12 : zHp, hp_12 = va_up hp a_9 (some (.inl (g.2.1 13, n_10, .inr (.inr (.inr (.inr (va_up f_11 x_8.toNatClampNeg r1))))))) →
  (zgI hp_12 (some h0) [35] 1 fun x_16 =>
  (zgI hp_12 (some h0) [35] 2 fun x_20 =>
  (zln (g.2.1 13) hp_12 r_4 fun x_23 =>
  (0 ≤ mc ∧ 0 ≤ ms ∧ zMt l g yJ17_inc cJ17_inc 2 (some .int) d 0 0 [.int x_20, .int x_23] hp_12 nx (zQi g fun x_26 hp_24 nx_25 =>
  (zpt g hp_24 (some h0) [35] 2 (.int x_26) fun hp_30 =>
  (∃ P_50 : (Option Nat) → zHp → Nat → Nat → Nat → Prop, (∀ (r_31 : Option Nat) (hp_32 : zHp) (nx_33 : Nat) (kc_34 : Nat) (ks_35 : Nat), P_50 r_31 hp_32 nx_33 kc_34 ks_35 →
  (kc_34 ≤ mc ∧ ks_35 ≤ ms ∧ Post hp_32 nx_33)) ∧
  ((x_16 = x_26 →
  (∃ c_36 s_37 : Nat, 0 + c_36 ≤ mc ∧ 0 + s_37 ≤ ms ∧ zo hp_30 (some h0) [35] fun a_40 ci_41 fs_42 => zMt l g yJ17_grow cJ17_grow 9 none d c_36 s_37 (.ref a_40 :: [.int (1 : Int32)]) hp_30 nx_25 (zQv g fun hp_38 nx_39 =>
  P_50 r_4 hp_38 nx_39 (0 + c_36) (0 + s_37)))) ∧
  (¬ x_16 = x_26 →
  P_50 r_4 hp_30 nx_25 0 0))))))))))))))
set_option maxHeartbeats 40000000 in
theorem met_J17_addLast {l : Launch} {g : zG} {d : Nat} {mc ms : Nat} {h0 : Nat} {r1 : Option Nat} {hp : zHp} {nx : Nat} {Post : zHp → Nat → Prop} (hw : wp_J17_addLast l g d mc ms h0 r1 hp nx Post) : zMt l g yJ17_addLast cJ17_addLast 3 none (d + 1) mc ms [.ref h0, va_rf r1] hp nx (zQv g Post) := by
  refine z_start (by decide) (by cases r1 <;> exact Nat.le_of_ble_eq_true rfl) ?_
  intro p e s m below meth c hk hr hin hH hz ls hl
  have hx := hk.1.1
  have hb := hk.1.2.1
  have hown := hk.1.2.2.2.1
  have hts := hk.1.2.2.2.2
  have hS : va_S (zAd g) s.heap s.heap [] := va_S.rf
  have hl : lv_has ls 3 [(0, va_rf (some h0)), (1, va_rf r1)] := by cases r1 <;> exact hl
  unfold wp_J17_addLast at hw
  refine zr_aload_n (r := r1) hx hb dJ17_addLast_0 rfl (lv_at hl 1 rfl) ?_
  refine zr_ifnonnull (r := r1) (tgt := 12) hx hb dJ17_addLast_1 (by decide) (fun hc => ?_) (fun hc => ?_)
  · have hw := hw.2 hc
    refine zr_aload_n (r := some h0) hx hb dJ17_addLast_12 rfl (lv_at hl 0 rfl) ?_
    obtain ⟨a_1, ci_2, fs_3, r_4, er, he, hc, hv, hw⟩ := zgR_e hw
    refine zw_get hk hH er he hv (fk_J17_3 hc) dJ17_addLast_13 ?_
    refine zr_astore_n (r := r_4) (i := 2) (lv' := [(2, va_rf r_4), (0, va_rf (some h0)), (1, va_rf r1)]) hx hb dJ17_addLast_16 rfl hl (by decide) (by first | rfl | simp [List.filter_cons, z_cat, z_catI, z_catJ, z_catF, z_catD]) (fun ls hl => ?_)
    refine zr_aload_n (r := r_4) hx hb dJ17_addLast_17 rfl (lv_at hl 0 rfl) ?_
    refine zr_aload_n (r := some h0) hx hb dJ17_addLast_18 rfl (lv_at hl 1 rfl) ?_
    obtain ⟨a_5, ci_6, fs_7, x_8, er, he, hc, hv, hw⟩ := zgI_e hw
    refine zw_get hk hH er he hv (fk_J17_20 hc) dJ17_addLast_19 ?_
    refine zr_aload_n (r := r1) hx hb dJ17_addLast_22 rfl (lv_at hl 2 rfl) ?_
    obtain ⟨a_9, n_10, f_11, er, he, hi, hA, hca, hw⟩ := zaR_e hw
    obtain ⟨hp_12, eh⟩ : ∃ y : zHp, y = va_up hp a_9 (some (.inl (g.2.1 13, n_10, .inr (.inr (.inr (.inr (va_up f_11 x_8.toNatClampNeg r1))))))) := ⟨_, rfl⟩
    have hw := hw hp_12 eh
    refine zw_aast (v := r1) (r := r_4) hk hH hz hS 13 er he rfl hi hA hca cw_java_lang_Object eh dJ17_addLast_23 (fun H locs hH hz hS => ?_)
    refine zr_aload_n (r := some h0) hx hb dJ17_addLast_24 rfl (lv_at hl 1 rfl) ?_
    obtain ⟨a_13, ci_14, fs_15, x_16, er, he, hc, hv, hw⟩ := zgI_e hw
    refine zw_get hk hH er he hv (fk_J17_24 hc) dJ17_addLast_25 ?_
    refine zr_aload_n (r := some h0) hx hb dJ17_addLast_28 rfl (lv_at hl 1 rfl) ?_
    refine zr_aload_n (r := some h0) hx hb dJ17_addLast_29 rfl (lv_at hl 1 rfl) ?_
    obtain ⟨a_17, ci_18, fs_19, x_20, er, he, hc, hv, hw⟩ := zgI_e hw
    refine zw_get hk hH er he hv (fk_J17_20 hc) dJ17_addLast_30 ?_
    refine zr_aload_n (r := r_4) hx hb dJ17_addLast_33 rfl (lv_at hl 0 rfl) ?_
    obtain ⟨a_21, v_22, er, he, hw⟩ := zln_e hw
    refine zw_alen hk hH 13 er he rfl dJ17_addLast_34 ?_
    generalize Int32.ofNat v_22.1 = x_23 at hw ⊢
    obtain ⟨hcl, hsl, hw⟩ := hw
    refine zr_calli (zr_runS (As := [.int x_20, .int x_23]) hk hH hz hS hl.1 hw (va_cwS 2 hts (lw_S q825 q826 q151 q827) rfl rfl rfl (by decide +kernel) (z_room (Nat.le_of_ble_eq_true rfl))) rfl rfl (by simp only [List.map_cons, List.map_nil, z_cat]; exact Nat.le_of_ble_eq_true rfl) dJ17_addLast_35 ⟨hcl, hsl⟩) hS (fun x_26 hp_24 nx_25 hw H locs hH hz hS => ?_)
    refine lv_dup_x1 hx hb dJ17_addLast_38 rfl (z_cat _) ?_
    obtain ⟨a_27, ci_28, fs_29, hp_30, er, he, hc, hA, hkl, eh, hw⟩ := zpt_e hw
    refine zw_put hk hH hz hS er he hA hkl eh (fp_J17_20 hc) rfl rfl dJ17_addLast_39 (fun H locs hH hz hS => ?_)
    obtain ⟨P_50, hP_50, hw⟩ := hw
    have hJ_50 : ∀ (r_31 : Option Nat) (hp_32 : zHp) (nx_33 : Nat) (kc_34 : Nat) (ks_35 : Nat) (H : Heap) (locs : List Loc) (ls : Array Slot), P_50 r_31 hp_32 nx_33 kc_34 ks_35 → lv_has ls 3 [(0, va_rf (some h0)), (1, va_rf r1), (2, va_rf r_31)] → zHd g hp_32 H → H.size = nx_33 → va_S (zAd g) s.heap H locs → W p l e (zrm (d + 1) mc ms) s m ([.ref h0, va_rf r1] : List Value).toArray below meth c H locs kc_34 ks_35 (MQ below (zQv g Post) ([.ref h0, va_rf r1] : List Value).toArray s mc ms (zAd g)) (F0 m 50 ls []) := by
      intro r_31 hp_32 nx_33 kc_34 ks_35 H locs ls hw hl hH hz hS
      have hw := hP_50 r_31 hp_32 nx_33 kc_34 ks_35 hw
      obtain ⟨hkc, hks, hw⟩ := hw
      exact zr_vret hk hr hH hz hS hw hkc hks dJ17_addLast_50
    refine lv_icmp_ne (tgt := 50) hx hb dJ17_addLast_42 (by decide) (fun hc => ?_) (fun hc => ?_)
    · have hw := hw.2 hc
      exact hJ_50 r_4 hp_30 nx_25 0 0 _ _ _ hw (lv_sub hl [1, 2, 0] rfl) hH hz hS
    · have hw := hw.1 hc
      refine zr_aload_n (r := some h0) hx hb dJ17_addLast_45 rfl (lv_at hl 1 rfl) ?_
      refine lv_iconst (v := (1 : Int32)) hx hb dJ17_addLast_46 (by decide) ?_
      obtain ⟨c_36, s_37, hcl, hsl, hw⟩ := hw
      obtain ⟨a_40, ci_41, fs_42, er, he, hc, hw⟩ := zo_e hw
      obtain rfl := List.mem_singleton.mp hc
      refine zr_callv (zw_runV (As := [.int (1 : Int32)]) hk hH hz hS hl.1 er hw (cwV 1 hts (lw_V q828 q830 qs7 q151 q831) rfl rfl rfl (by decide +kernel) (z_room (Nat.le_of_ble_eq_true rfl))) he rfl rfl rfl (Nat.le_of_ble_eq_true rfl) dJ17_addLast_47 ⟨hcl, hsl⟩) hS (fun hp_38 nx_39 hw H locs hH hz hS => ?_)
      exact hJ_50 r_4 hp_38 nx_39 (0 + c_36) (0 + s_37) _ _ _ hw (lv_sub hl [1, 2, 0] rfl) hH hz hS
  · have hw := hw.1 hc
    exact hw.elim
def wp_J17_inc (l : Launch) (g : zG) (d : Nat) (x0 : Int32) (x1 : Int32) (hp : zHp) (nx : Nat) (Post : Int32 → zHp → Nat → Prop) : Prop :=
  (∀ x_1 : Int32, x_1 = x0 + (1 : Int32) →
  (∃ P_10 : Int32 → Prop, (∀ (x_2 : Int32), P_10 x_2 →
  (Post x_2 hp nx)) ∧
  ((x_1 < x1 →
  P_10 x_1) ∧
  (¬ x_1 < x1 →
  P_10 (0 : Int32)))))
set_option maxHeartbeats 40000000 in
theorem met_J17_inc {l : Launch} {g : zG} {d : Nat} {x0 : Int32} {x1 : Int32} {hp : zHp} {nx : Nat} {Post : Int32 → zHp → Nat → Prop} (hw : wp_J17_inc l g d x0 x1 hp nx Post) : zMt l g yJ17_inc cJ17_inc 2 (some .int) (d + 1) 0 0 [.int x0, .int x1] hp nx (zQi g Post) := by
  refine z_start (by decide) (Nat.le_of_ble_eq_true rfl) ?_
  intro p e s m below meth c hk hr hin hH hz ls hl
  have hx := hk.1.1
  have hb := hk.1.2.1
  have hown := hk.1.2.2.2.1
  have hts := hk.1.2.2.2.2
  have hS : va_S (zAd g) s.heap s.heap [] := va_S.rf
  have hl : lv_has ls 2 [(0, .int x0), (1, .int x1)] := hl
  unfold wp_J17_inc at hw
  obtain ⟨x_1, ex_1⟩ : ∃ y : Int32, y = x0 + (1 : Int32) := ⟨_, rfl⟩
  have hw := hw x_1 ex_1
  refine lv_iinc (v := x_1) (lv' := [(0, .int x_1), (1, .int x1)]) hx hb dJ17_inc_0 hl (k := 0) rfl (by rw [ex_1]; rfl) (by decide) (by first | rfl | simp [List.filter_cons, z_cat, z_catI, z_catJ, z_catF, z_catD]) (fun ls hl => ?_)
  refine lv_iload_n hx hb dJ17_inc_3 rfl (lv_at hl 0 rfl) ?_
  refine lv_iload_n hx hb dJ17_inc_4 rfl (lv_at hl 1 rfl) ?_
  obtain ⟨P_10, hP_10, hw⟩ := hw
  have hJ_10 : ∀ (x_2 : Int32) (H : Heap) (locs : List Loc) (ls : Array Slot), P_10 x_2 → lv_has ls 2 [(0, .int x_2), (1, .int x1)] → zHd g hp H → H.size = nx → va_S (zAd g) s.heap H locs → W p l e (zrm (d + 1) 0 0) s m ([.int x0, .int x1] : List Value).toArray below meth c H locs 0 0 (MQ below (zQi g Post) ([.int x0, .int x1] : List Value).toArray s 0 0 (zAd g)) (F0 m 10 ls []) := by
    intro x_2 H locs ls hw hl hH hz hS
    have hw := hP_10 x_2 hw
    refine lv_iload_n hx hb dJ17_inc_10 rfl (lv_at hl 0 rfl) ?_
    exact zr_iret hk hr hH hz hS hw (Nat.le_of_ble_eq_true rfl) (Nat.le_of_ble_eq_true rfl) dJ17_inc_11
  refine lv_icmp_lt (tgt := 10) hx hb dJ17_inc_5 (by decide) (fun hc => ?_) (fun hc => ?_)
  · have hw := hw.1 hc
    exact hJ_10 x_1 _ _ _ hw hl hH hz hS
  · have hw := hw.2 hc
    refine lv_iconst (v := (0 : Int32)) hx hb dJ17_inc_8 (by decide) ?_
    refine lv_istore_n (i := 0) (lv' := [(0, .int (0 : Int32)), (1, .int x1)]) hx hb dJ17_inc_9 rfl hl (by decide) (by first | rfl | simp [List.filter_cons, z_cat, z_catI, z_catJ, z_catF, z_catD]) (fun ls hl => ?_)
    exact hJ_10 (0 : Int32) _ _ _ hw hl hH hz hS
def wp_J17_newCapacity (l : Launch) (g : zG) (d : Nat) (h0 : Nat) (x1 : Int32) (x2 : Int32) (hp : zHp) (nx : Nat) (Post : Int32 → zHp → Nat → Prop) : Prop :=
  (zgR hp (some h0) [35] 0 fun r_4 =>
  (zln (g.2.1 13) hp r_4 fun x_7 =>
  (∀ x_8 : Int32, x_8 = x_7 + x1 →
  ((((x_7 + x1) - (2147483639 : Int32)) ≤ 0 →
  ((x1 ≤ x2 →
  (∃ P_61 : Int32 → Int32 → Int32 → Prop, (∀ (x_9 : Int32) (x_10 : Int32) (x_11 : Int32), P_61 x_9 x_10 x_11 →
  (Post x_11 hp nx)) ∧
  ((0 ≤ ((x_7 + x2) - (2147483639 : Int32)) →
  P_61 x_7 x_8 (2147483639 : Int32)) ∧
  (¬ 0 ≤ ((x_7 + x2) - (2147483639 : Int32)) →
  P_61 x_7 x_8 (x_7 + x2))))) ∧
  (¬ x1 ≤ x2 →
  (Post x_8 hp nx)))) ∧
  (¬ ((x_7 + x1) - (2147483639 : Int32)) ≤ 0 →
  ((0 ≤ x_8 →
  (Post (2147483647 : Int32) hp nx)) ∧
  (¬ 0 ≤ x_8 →
  False)))))))
set_option maxHeartbeats 40000000 in
theorem met_J17_newCapacity {l : Launch} {g : zG} {d : Nat} {h0 : Nat} {x1 : Int32} {x2 : Int32} {hp : zHp} {nx : Nat} {Post : Int32 → zHp → Nat → Prop} (hw : wp_J17_newCapacity l g d h0 x1 x2 hp nx Post) : zMt l g yJ17_newCapacity cJ17_newCapacity 5 (some .int) (d + 1) 0 0 [.ref h0, .int x1, .int x2] hp nx (zQi g Post) := by
  refine z_start (by decide) (Nat.le_of_ble_eq_true rfl) ?_
  intro p e s m below meth c hk hr hin hH hz ls hl
  have hx := hk.1.1
  have hb := hk.1.2.1
  have hown := hk.1.2.2.2.1
  have hts := hk.1.2.2.2.2
  have hS : va_S (zAd g) s.heap s.heap [] := va_S.rf
  have hl : lv_has ls 5 [(0, va_rf (some h0)), (1, .int x1), (2, .int x2)] := hl
  unfold wp_J17_newCapacity at hw
  refine zr_aload_n (r := some h0) hx hb dJ17_newCapacity_0 rfl (lv_at hl 0 rfl) ?_
  obtain ⟨a_1, ci_2, fs_3, r_4, er, he, hc, hv, hw⟩ := zgR_e hw
  refine zw_get hk hH er he hv (fk_J17_3 hc) dJ17_newCapacity_1 ?_
  obtain ⟨a_5, v_6, er, he, hw⟩ := zln_e hw
  refine zw_alen hk hH 13 er he rfl dJ17_newCapacity_4 ?_
  generalize Int32.ofNat v_6.1 = x_7 at hw ⊢
  refine lv_istore_n (i := 3) (lv' := [(3, .int x_7), (0, va_rf (some h0)), (1, .int x1), (2, .int x2)]) hx hb dJ17_newCapacity_5 rfl hl (by decide) (by first | rfl | simp [List.filter_cons, z_cat, z_catI, z_catJ, z_catF, z_catD]) (fun ls hl => ?_)
  refine lv_iload_n hx hb dJ17_newCapacity_6 rfl (lv_at hl 0 rfl) ?_
  refine lv_iload_n hx hb dJ17_newCapacity_7 rfl (lv_at hl 2 rfl) ?_
  refine lv_iadd hx hb dJ17_newCapacity_8 ?_
  refine lv_dup hx hb dJ17_newCapacity_9 rfl ?_
  refine lv_topi (fun x_8 ex_8 => ?_)
  have hw := hw x_8 ex_8
  refine lv_istore (lv' := [(4, .int x_8), (3, .int x_7), (0, va_rf (some h0)), (1, .int x1), (2, .int x2)]) hx hb dJ17_newCapacity_10 hl (by decide) (by first | rfl | simp [List.filter_cons, z_cat, z_catI, z_catJ, z_catF, z_catD]) (fun ls hl => ?_)
  refine lv_ldc hx hb hown (hts _ q832) dJ17_newCapacity_12 ?_
  refine lv_isub hx hb dJ17_newCapacity_14 ?_
  refine lv_if_le (tgt := 36) hx hb dJ17_newCapacity_15 (by decide) (fun hc => ?_) (fun hc => ?_)
  · have hw := hw.1 hc
    refine lv_iload_n hx hb dJ17_newCapacity_36 rfl (lv_at hl 3 rfl) ?_
    refine lv_iload_n hx hb dJ17_newCapacity_37 rfl (lv_at hl 4 rfl) ?_
    refine lv_icmp_le (tgt := 44) hx hb dJ17_newCapacity_38 (by decide) (fun hc => ?_) (fun hc => ?_)
    · have hw := hw.1 hc
      refine lv_iload_n hx hb dJ17_newCapacity_44 rfl (lv_at hl 1 rfl) ?_
      refine lv_iload_n hx hb dJ17_newCapacity_45 rfl (lv_at hl 4 rfl) ?_
      refine lv_iadd hx hb dJ17_newCapacity_46 ?_
      refine lv_ldc hx hb hown (hts _ q832) dJ17_newCapacity_47 ?_
      refine lv_isub hx hb dJ17_newCapacity_49 ?_
      obtain ⟨P_61, hP_61, hw⟩ := hw
      have hJ_61 : ∀ (x_9 : Int32) (x_10 : Int32) (x_11 : Int32) (H : Heap) (locs : List Loc) (ls : Array Slot), P_61 x_9 x_10 x_11 → lv_has ls 5 [(0, va_rf (some h0)), (1, .int x1), (2, .int x2), (3, .int x_9), (4, .int x_10)] → zHd g hp H → H.size = nx → va_S (zAd g) s.heap H locs → W p l e (zrm (d + 1) 0 0) s m ([.ref h0, .int x1, .int x2] : List Value).toArray below meth c H locs 0 0 (MQ below (zQi g Post) ([.ref h0, .int x1, .int x2] : List Value).toArray s 0 0 (zAd g)) (F0 m 61 ls [.int x_11]) := by
        intro x_9 x_10 x_11 H locs ls hw hl hH hz hS
        have hw := hP_61 x_9 x_10 x_11 hw
        exact zr_iret hk hr hH hz hS hw (Nat.le_of_ble_eq_true rfl) (Nat.le_of_ble_eq_true rfl) dJ17_newCapacity_61
      refine lv_if_ge (tgt := 59) hx hb dJ17_newCapacity_50 (by decide) (fun hc => ?_) (fun hc => ?_)
      · have hw := hw.1 hc
        refine lv_ldc hx hb hown (hts _ q832) dJ17_newCapacity_59 ?_
        exact hJ_61 x_7 x_8 (2147483639 : Int32) _ _ _ hw (lv_sub hl [2, 3, 4, 1, 0] rfl) hH hz hS
      · have hw := hw.2 hc
        refine lv_iload_n hx hb dJ17_newCapacity_53 rfl (lv_at hl 1 rfl) ?_
        refine lv_iload_n hx hb dJ17_newCapacity_54 rfl (lv_at hl 4 rfl) ?_
        refine lv_iadd hx hb dJ17_newCapacity_55 ?_
        refine lv_goto (tgt := 61) hx hb dJ17_newCapacity_56 (by decide) ?_
        exact hJ_61 x_7 x_8 (x_7 + x2) _ _ _ hw (lv_sub hl [2, 3, 4, 1, 0] rfl) hH hz hS
    · have hw := hw.2 hc
      refine lv_iload hx hb dJ17_newCapacity_41 (lv_at hl 0 rfl) ?_
      exact zr_iret hk hr hH hz hS hw (Nat.le_of_ble_eq_true rfl) (Nat.le_of_ble_eq_true rfl) dJ17_newCapacity_43
  · have hw := hw.2 hc
    refine lv_iload hx hb dJ17_newCapacity_18 (lv_at hl 0 rfl) ?_
    refine lv_if_ge (tgt := 33) hx hb dJ17_newCapacity_20 (by decide) (fun hc => ?_) (fun hc => ?_)
    · have hw := hw.1 hc
      refine lv_ldc hx hb hown (hts _ q633) dJ17_newCapacity_33 ?_
      exact zr_iret hk hr hH hz hS hw (Nat.le_of_ble_eq_true rfl) (Nat.le_of_ble_eq_true rfl) dJ17_newCapacity_35
    · have hw := hw.2 hc
      exact hw.elim
def wp_J17_isEmpty (l : Launch) (g : zG) (d : Nat) (h0 : Nat) (hp : zHp) (nx : Nat) (Post : Int32 → zHp → Nat → Prop) : Prop :=
  (zgI hp (some h0) [35] 1 fun x_4 =>
  (zgI hp (some h0) [35] 2 fun x_8 =>
  (∃ P_16 : Int32 → Prop, (∀ (x_9 : Int32), P_16 x_9 →
  (((x_9 = 0 ∨ x_9 = 1) ∧ Post x_9 hp nx))) ∧
  ((x_4 = x_8 →
  P_16 (1 : Int32)) ∧
  (¬ x_4 = x_8 →
  P_16 (0 : Int32))))))
set_option maxHeartbeats 40000000 in
theorem met_J17_isEmpty {l : Launch} {g : zG} {d : Nat} {h0 : Nat} {hp : zHp} {nx : Nat} {Post : Int32 → zHp → Nat → Prop} (hw : wp_J17_isEmpty l g d h0 hp nx Post) : zMt l g yJ17_isEmpty cJ17_isEmpty 1 (some .boolean) (d + 1) 0 0 [.ref h0] hp nx (zQi g Post) := by
  refine z_start (by decide) (Nat.le_of_ble_eq_true rfl) ?_
  intro p e s m below meth c hk hr hin hH hz ls hl
  have hx := hk.1.1
  have hb := hk.1.2.1
  have hown := hk.1.2.2.2.1
  have hts := hk.1.2.2.2.2
  have hS : va_S (zAd g) s.heap s.heap [] := va_S.rf
  have hl : lv_has ls 1 [(0, va_rf (some h0))] := hl
  unfold wp_J17_isEmpty at hw
  refine zr_aload_n (r := some h0) hx hb dJ17_isEmpty_0 rfl (lv_at hl 0 rfl) ?_
  obtain ⟨a_1, ci_2, fs_3, x_4, er, he, hc, hv, hw⟩ := zgI_e hw
  refine zw_get hk hH er he hv (fk_J17_24 hc) dJ17_isEmpty_1 ?_
  refine zr_aload_n (r := some h0) hx hb dJ17_isEmpty_4 rfl (lv_at hl 0 rfl) ?_
  obtain ⟨a_5, ci_6, fs_7, x_8, er, he, hc, hv, hw⟩ := zgI_e hw
  refine zw_get hk hH er he hv (fk_J17_20 hc) dJ17_isEmpty_5 ?_
  obtain ⟨P_16, hP_16, hw⟩ := hw
  have hJ_16 : ∀ (x_9 : Int32) (H : Heap) (locs : List Loc) (ls : Array Slot), P_16 x_9 → lv_has ls 1 [(0, va_rf (some h0))] → zHd g hp H → H.size = nx → va_S (zAd g) s.heap H locs → W p l e (zrm (d + 1) 0 0) s m ([.ref h0] : List Value).toArray below meth c H locs 0 0 (MQ below (zQi g Post) ([.ref h0] : List Value).toArray s 0 0 (zAd g)) (F0 m 16 ls [.int x_9]) := by
    intro x_9 H locs ls hw hl hH hz hS
    have hw := hP_16 x_9 hw
    exact zr_zret hk hr hH hz hS hw.1 hw.2 (Nat.le_of_ble_eq_true rfl) (Nat.le_of_ble_eq_true rfl) dJ17_isEmpty_16
  refine lv_icmp_ne (tgt := 15) hx hb dJ17_isEmpty_8 (by decide) (fun hc => ?_) (fun hc => ?_)
  · have hw := hw.2 hc
    refine lv_iconst (v := (0 : Int32)) hx hb dJ17_isEmpty_15 (by decide) ?_
    exact hJ_16 (0 : Int32) _ _ _ hw hl hH hz hS
  · have hw := hw.1 hc
    refine lv_iconst (v := (1 : Int32)) hx hb dJ17_isEmpty_11 (by decide) ?_
    refine lv_goto (tgt := 16) hx hb dJ17_isEmpty_12 (by decide) ?_
    exact hJ_16 (1 : Int32) _ _ _ hw hl hH hz hS
def wp_J17_pollFirst (l : Launch) (g : zG) (d : Nat) (h0 : Nat) (hp : zHp) (nx : Nat) (Post : Option Nat → zHp → Nat → Prop) : Prop :=
  (zgR hp (some h0) [35] 0 fun r_4 =>
  (zgI hp (some h0) [35] 1 fun x_8 =>
  (zMt l g yJ17_elementAt cJ17_elementAt 2 (some (.object "java/lang/Object")) d 0 0 [va_rf r_4, .int x_8] hp nx (zQq g fun r_11 hp_9 nx_10 =>
  (∃ P_34 : (Option Nat) → Int32 → (Option Nat) → zHp → Nat → Prop, (∀ (r_12 : Option Nat) (x_13 : Int32) (r_14 : Option Nat) (hp_15 : zHp) (nx_16 : Nat), P_34 r_12 x_13 r_14 hp_15 nx_16 →
  (Post r_14 hp_15 nx_16)) ∧
  ((r_11 = none →
  P_34 r_4 x_8 r_11 hp_9 nx_10) ∧
  (¬ r_11 = none →
  (zaR (g.2.1 13) hp_9 r_4 fun a_17 n_18 f_19 => vp_in x_8 n_18 ∧ zB g ≤ a_17 ∧ zCa hp_9 none [0, 1, 2, 3, 4, 5, 6, 7, 8, 9, 10, 11, 12, 14, 16, 17, 18, 19, 20, 21, 22, 23, 24, 25, 26, 27, 28, 29, 30, 31, 32, 33, 34, 35, 36, 37, 38, 39, 40, 41] ∧ ∀ hp_20 : zHp, hp_20 = va_up hp_9 a_17 (some (.inl (g.2.1 13, n_18, .inr (.inr (.inr (.inr (va_up f_19 x_8.toNatClampNeg none))))))) →
  (zln (g.2.1 13) hp_20 r_4 fun x_23 =>
  (zMt l g yJ17_inc cJ17_inc 2 (some .int) d 0 0 [.int x_8, .int x_23] hp_20 nx_10 (zQi g fun x_26 hp_24 nx_25 =>
  (zpt g hp_24 (some h0) [35] 1 (.int x_26) fun hp_30 =>
  P_34 r_4 x_8 r_11 hp_30 nx_25))))))))))))
set_option maxHeartbeats 40000000 in
theorem met_J17_pollFirst {l : Launch} {g : zG} {d : Nat} {h0 : Nat} {hp : zHp} {nx : Nat} {Post : Option Nat → zHp → Nat → Prop} (hw : wp_J17_pollFirst l g d h0 hp nx Post) : zMt l g yJ17_pollFirst cJ17_pollFirst 4 (some (.object "java/lang/Object")) (d + 1) 0 0 [.ref h0] hp nx (zQq g Post) := by
  refine z_start (by decide) (Nat.le_of_ble_eq_true rfl) ?_
  intro p e s m below meth c hk hr hin hH hz ls hl
  have hx := hk.1.1
  have hb := hk.1.2.1
  have hown := hk.1.2.2.2.1
  have hts := hk.1.2.2.2.2
  have hS : va_S (zAd g) s.heap s.heap [] := va_S.rf
  have hl : lv_has ls 4 [(0, va_rf (some h0))] := hl
  unfold wp_J17_pollFirst at hw
  refine zr_aload_n (r := some h0) hx hb dJ17_pollFirst_0 rfl (lv_at hl 0 rfl) ?_
  obtain ⟨a_1, ci_2, fs_3, r_4, er, he, hc, hv, hw⟩ := zgR_e hw
  refine zw_get hk hH er he hv (fk_J17_3 hc) dJ17_pollFirst_1 ?_
  refine lv_dup hx hb dJ17_pollFirst_4 (z_cat _) ?_
  refine zr_astore_n (r := r_4) (i := 1) (lv' := [(1, va_rf r_4), (0, va_rf (some h0))]) hx hb dJ17_pollFirst_5 rfl hl (by decide) (by first | rfl | simp [List.filter_cons, z_cat, z_catI, z_catJ, z_catF, z_catD]) (fun ls hl => ?_)
  refine zr_aload_n (r := some h0) hx hb dJ17_pollFirst_6 rfl (lv_at hl 1 rfl) ?_
  obtain ⟨a_5, ci_6, fs_7, x_8, er, he, hc, hv, hw⟩ := zgI_e hw
  refine zw_get hk hH er he hv (fk_J17_24 hc) dJ17_pollFirst_7 ?_
  refine lv_dup hx hb dJ17_pollFirst_10 rfl ?_
  refine lv_istore_n (i := 2) (lv' := [(2, .int x_8), (1, va_rf r_4), (0, va_rf (some h0))]) hx hb dJ17_pollFirst_11 rfl hl (by decide) (by first | rfl | simp [List.filter_cons, z_cat, z_catI, z_catJ, z_catF, z_catD]) (fun ls hl => ?_)
  refine zr_callq (zr_runS (As := [va_rf r_4, .int x_8]) hk hH hz hS hl.1 hw (va_cwS 2 hts (lw_S q906 q907 q151 q908) rfl rfl rfl (by decide +kernel) (z_room (Nat.le_of_ble_eq_true rfl))) rfl rfl (Nat.le_of_ble_eq_true rfl) dJ17_pollFirst_12 ⟨Nat.le_of_ble_eq_true rfl, Nat.le_of_ble_eq_true rfl⟩) hS (fun r_11 hp_9 nx_10 hw H locs hH hz hS => ?_)
  refine zr_astore_n (r := r_11) (i := 3) (lv' := [(3, va_rf r_11), (2, .int x_8), (1, va_rf r_4), (0, va_rf (some h0))]) hx hb dJ17_pollFirst_15 rfl hl (by decide) (by first | rfl | simp [List.filter_cons, z_cat, z_catI, z_catJ, z_catF, z_catD]) (fun ls hl => ?_)
  refine zr_aload_n (r := r_11) hx hb dJ17_pollFirst_16 rfl (lv_at hl 0 rfl) ?_
  obtain ⟨P_34, hP_34, hw⟩ := hw
  have hJ_34 : ∀ (r_12 : Option Nat) (x_13 : Int32) (r_14 : Option Nat) (hp_15 : zHp) (nx_16 : Nat) (H : Heap) (locs : List Loc) (ls : Array Slot), P_34 r_12 x_13 r_14 hp_15 nx_16 → lv_has ls 4 [(0, va_rf (some h0)), (1, va_rf r_12), (2, .int x_13), (3, va_rf r_14)] → zHd g hp_15 H → H.size = nx_16 → va_S (zAd g) s.heap H locs → W p l e (zrm (d + 1) 0 0) s m ([.ref h0] : List Value).toArray below meth c H locs 0 0 (MQ below (zQq g Post) ([.ref h0] : List Value).toArray s 0 0 (zAd g)) (F0 m 34 ls []) := by
    intro r_12 x_13 r_14 hp_15 nx_16 H locs ls hw hl hH hz hS
    have hw := hP_34 r_12 x_13 r_14 hp_15 nx_16 hw
    refine zr_aload_n (r := r_14) hx hb dJ17_pollFirst_34 rfl (lv_at hl 3 rfl) ?_
    exact zr_aret (r := r_14) hk hr (Or.inl ⟨_, rfl⟩) hH hz hS hw (Nat.le_of_ble_eq_true rfl) (Nat.le_of_ble_eq_true rfl) dJ17_pollFirst_35
  refine zr_ifnull (r := r_11) (tgt := 34) hx hb dJ17_pollFirst_17 (by decide) (fun hc => ?_) (fun hc => ?_)
  · have hw := hw.1 hc
    exact hJ_34 r_4 x_8 r_11 hp_9 nx_10 _ _ _ hw (lv_sub hl [3, 2, 1, 0] rfl) hH hz hS
  · have hw := hw.2 hc
    refine zr_aload_n (r := r_4) hx hb dJ17_pollFirst_20 rfl (lv_at hl 2 rfl) ?_
    refine lv_iload_n hx hb dJ17_pollFirst_21 rfl (lv_at hl 1 rfl) ?_
    refine zx_null hx hb dJ17_pollFirst_22 ?_
    obtain ⟨a_17, n_18, f_19, er, he, hi, hA, hca, hw⟩ := zaR_e hw
    obtain ⟨hp_20, eh⟩ : ∃ y : zHp, y = va_up hp_9 a_17 (some (.inl (g.2.1 13, n_18, .inr (.inr (.inr (.inr (va_up f_19 x_8.toNatClampNeg none))))))) := ⟨_, rfl⟩
    have hw := hw hp_20 eh
    refine zw_aast (v := none) (r := r_4) hk hH hz hS 13 er he rfl hi hA hca cw_java_lang_Object eh dJ17_pollFirst_23 (fun H locs hH hz hS => ?_)
    refine zr_aload_n (r := some h0) hx hb dJ17_pollFirst_24 rfl (lv_at hl 3 rfl) ?_
    refine lv_iload_n hx hb dJ17_pollFirst_25 rfl (lv_at hl 1 rfl) ?_
    refine zr_aload_n (r := r_4) hx hb dJ17_pollFirst_26 rfl (lv_at hl 2 rfl) ?_
    obtain ⟨a_21, v_22, er, he, hw⟩ := zln_e hw
    refine zw_alen hk hH 13 er he rfl dJ17_pollFirst_27 ?_
    generalize Int32.ofNat v_22.1 = x_23 at hw ⊢
    refine zr_calli (zr_runS (As := [.int x_8, .int x_23]) hk hH hz hS hl.1 hw (va_cwS 2 hts (lw_S q825 q826 q151 q827) rfl rfl rfl (by decide +kernel) (z_room (Nat.le_of_ble_eq_true rfl))) rfl rfl (by simp only [List.map_cons, List.map_nil, z_cat]; exact Nat.le_of_ble_eq_true rfl) dJ17_pollFirst_28 ⟨Nat.le_of_ble_eq_true rfl, Nat.le_of_ble_eq_true rfl⟩) hS (fun x_26 hp_24 nx_25 hw H locs hH hz hS => ?_)
    obtain ⟨a_27, ci_28, fs_29, hp_30, er, he, hc, hA, hkl, eh, hw⟩ := zpt_e hw
    refine zw_put hk hH hz hS er he hA hkl eh (fp_J17_24 hc) rfl rfl dJ17_pollFirst_31 (fun H locs hH hz hS => ?_)
    exact hJ_34 r_4 x_8 r_11 hp_30 nx_25 _ _ _ hw (lv_sub hl [3, 2, 1, 0] rfl) hH hz hS
def wp_J17_elementAt (l : Launch) (g : zG) (d : Nat) (r0 : Option Nat) (x1 : Int32) (hp : zHp) (nx : Nat) (Post : Option Nat → zHp → Nat → Prop) : Prop :=
  (zaR (g.2.1 13) hp r0 fun a_1 n_2 f_3 => vp_in x1 n_2 ∧ ∀ r_4 : Option Nat, r_4 = f_3 x1.toNatClampNeg →
  (Post r_4 hp nx))
set_option maxHeartbeats 40000000 in
theorem met_J17_elementAt {l : Launch} {g : zG} {d : Nat} {r0 : Option Nat} {x1 : Int32} {hp : zHp} {nx : Nat} {Post : Option Nat → zHp → Nat → Prop} (hw : wp_J17_elementAt l g d r0 x1 hp nx Post) : zMt l g yJ17_elementAt cJ17_elementAt 2 (some (.object "java/lang/Object")) (d + 1) 0 0 [va_rf r0, .int x1] hp nx (zQq g Post) := by
  refine z_start (by decide) (by cases r0 <;> exact Nat.le_of_ble_eq_true rfl) ?_
  intro p e s m below meth c hk hr hin hH hz ls hl
  have hx := hk.1.1
  have hb := hk.1.2.1
  have hown := hk.1.2.2.2.1
  have hts := hk.1.2.2.2.2
  have hS : va_S (zAd g) s.heap s.heap [] := va_S.rf
  have hl : lv_has ls 2 [(0, va_rf r0), (1, .int x1)] := by cases r0 <;> exact hl
  unfold wp_J17_elementAt at hw
  refine zr_aload_n (r := r0) hx hb dJ17_elementAt_0 rfl (lv_at hl 0 rfl) ?_
  refine lv_iload_n hx hb dJ17_elementAt_1 rfl (lv_at hl 1 rfl) ?_
  obtain ⟨a_1, n_2, f_3, er, he, hi, hw⟩ := zaR_e hw
  have hw := hw _ rfl
  refine zw_aald hk hH 13 er he rfl rfl hi dJ17_elementAt_2 ?_
  generalize f_3 x1.toNatClampNeg = r_4 at hw ⊢
  exact zr_aret (r := r_4) hk hr (Or.inl ⟨_, rfl⟩) hH hz hS hw (Nat.le_of_ble_eq_true rfl) (Nat.le_of_ble_eq_true rfl) dJ17_elementAt_3
def wp_J19_numberOfTrailingZeros (l : Launch) (g : zG) (d : Nat) (x0 : Int64) (hp : zHp) (nx : Nat) (Post : Int32 → zHp → Nat → Prop) : Prop :=
  (∀ x_1 : Int32, x_1 = x0.toInt32 →
  (∃ P_25 : Int32 → Int32 → zHp → Nat → Prop, (∀ (x_2 : Int32) (x_3 : Int32) (hp_4 : zHp) (nx_5 : Nat), P_25 x_2 x_3 hp_4 nx_5 →
  (Post x_3 hp_4 nx_5)) ∧
  ((x_1 = 0 →
  (zMt l g yJ15_numberOfTrailingZeros cJ15_numberOfTrailingZeros 2 (some .int) d 0 0 [.int (((x0.toUInt64 >>> ((32 : Int32).toInt64.toUInt64 &&& Int64.toUInt64 63)).toInt64).toInt32)] hp nx (zQi g fun x_11 hp_9 nx_10 =>
  P_25 x_1 ((32 : Int32) + x_11) hp_9 nx_10))) ∧
  (¬ x_1 = 0 →
  (zMt l g yJ15_numberOfTrailingZeros cJ15_numberOfTrailingZeros 2 (some .int) d 0 0 [.int x_1] hp nx (zQi g fun x_8 hp_6 nx_7 =>
  P_25 x_1 x_8 hp_6 nx_7))))))
set_option maxHeartbeats 40000000 in
theorem met_J19_numberOfTrailingZeros {l : Launch} {g : zG} {d : Nat} {x0 : Int64} {hp : zHp} {nx : Nat} {Post : Int32 → zHp → Nat → Prop} (hw : wp_J19_numberOfTrailingZeros l g d x0 hp nx Post) : zMt l g yJ19_numberOfTrailingZeros cJ19_numberOfTrailingZeros 3 (some .int) (d + 1) 0 0 [.long x0] hp nx (zQi g Post) := by
  refine z_start (by decide) (Nat.le_of_ble_eq_true rfl) ?_
  intro p e s m below meth c hk hr hin hH hz ls hl
  have hx := hk.1.1
  have hb := hk.1.2.1
  have hown := hk.1.2.2.2.1
  have hts := hk.1.2.2.2.2
  have hS : va_S (zAd g) s.heap s.heap [] := va_S.rf
  have hl : lv_has ls 3 [(0, .long x0)] := hl
  unfold wp_J19_numberOfTrailingZeros at hw
  refine lv_lload_n hx hb dJ19_numberOfTrailingZeros_0 rfl (lv_at hl 0 rfl) ?_
  refine lv_l2i hx hb dJ19_numberOfTrailingZeros_1 rfl ?_
  refine lv_topi (fun x_1 ex_1 => ?_)
  have hw := hw x_1 ex_1
  refine lv_istore_n (i := 2) (lv' := [(2, .int x_1), (0, .long x0)]) hx hb dJ19_numberOfTrailingZeros_2 rfl hl (by decide) (by first | rfl | simp [List.filter_cons, z_cat, z_catI, z_catJ, z_catF, z_catD]) (fun ls hl => ?_)
  refine lv_iload_n hx hb dJ19_numberOfTrailingZeros_3 rfl (lv_at hl 0 rfl) ?_
  obtain ⟨P_25, hP_25, hw⟩ := hw
  have hJ_25 : ∀ (x_2 : Int32) (x_3 : Int32) (hp_4 : zHp) (nx_5 : Nat) (H : Heap) (locs : List Loc) (ls : Array Slot), P_25 x_2 x_3 hp_4 nx_5 → lv_has ls 3 [(0, .long x0), (2, .int x_2)] → zHd g hp_4 H → H.size = nx_5 → va_S (zAd g) s.heap H locs → W p l e (zrm (d + 1) 0 0) s m ([.long x0] : List Value).toArray below meth c H locs 0 0 (MQ below (zQi g Post) ([.long x0] : List Value).toArray s 0 0 (zAd g)) (F0 m 25 ls [.int x_3]) := by
    intro x_2 x_3 hp_4 nx_5 H locs ls hw hl hH hz hS
    have hw := hP_25 x_2 x_3 hp_4 nx_5 hw
    exact zr_iret hk hr hH hz hS hw (Nat.le_of_ble_eq_true rfl) (Nat.le_of_ble_eq_true rfl) dJ19_numberOfTrailingZeros_25
  refine lv_if_ne (tgt := 21) hx hb dJ19_numberOfTrailingZeros_4 (by decide) (fun hc => ?_) (fun hc => ?_)
  · have hw := hw.2 hc
    refine lv_iload_n hx hb dJ19_numberOfTrailingZeros_21 rfl (lv_at hl 0 rfl) ?_
    refine zr_calli (zr_runS (As := [.int x_1]) hk hH hz hS hl.1 hw (va_cwS 1 hts (lw_S q953 q954 q149 q955) rfl rfl rfl (by decide +kernel) (z_room (Nat.le_of_ble_eq_true rfl))) rfl rfl (Nat.le_of_ble_eq_true rfl) dJ19_numberOfTrailingZeros_22 ⟨Nat.le_of_ble_eq_true rfl, Nat.le_of_ble_eq_true rfl⟩) hS (fun x_8 hp_6 nx_7 hw H locs hH hz hS => ?_)
    exact hJ_25 x_1 x_8 hp_6 nx_7 _ _ _ hw (lv_sub hl [1, 0] rfl) hH hz hS
  · have hw := hw.1 hc
    refine lv_bipush (v := (32 : Int32)) hx hb dJ19_numberOfTrailingZeros_7 (by decide) ?_
    refine lv_lload_n hx hb dJ19_numberOfTrailingZeros_9 rfl (lv_at hl 1 rfl) ?_
    refine lv_bipush (v := (32 : Int32)) hx hb dJ19_numberOfTrailingZeros_10 (by decide) ?_
    refine lv_lushr hx hb dJ19_numberOfTrailingZeros_12 rfl ?_
    refine lv_l2i hx hb dJ19_numberOfTrailingZeros_13 rfl ?_
    refine zr_calli (zr_runS (As := [.int (((x0.toUInt64 >>> ((32 : Int32).toInt64.toUInt64 &&& Int64.toUInt64 63)).toInt64).toInt32)]) hk hH hz hS hl.1 hw (va_cwS 1 hts (lw_S q953 q954 q149 q955) rfl rfl rfl (by decide +kernel) (z_room (Nat.le_of_ble_eq_true rfl))) rfl rfl (Nat.le_of_ble_eq_true rfl) dJ19_numberOfTrailingZeros_14 ⟨Nat.le_of_ble_eq_true rfl, Nat.le_of_ble_eq_true rfl⟩) hS (fun x_11 hp_9 nx_10 hw H locs hH hz hS => ?_)
    refine lv_iadd hx hb dJ19_numberOfTrailingZeros_17 ?_
    refine lv_goto (tgt := 25) hx hb dJ19_numberOfTrailingZeros_18 (by decide) ?_
    exact hJ_25 x_1 ((32 : Int32) + x_11) hp_9 nx_10 _ _ _ hw (lv_sub hl [1, 0] rfl) hH hz hS
def wp_J2_init (l : Launch) (g : zG) (d : Nat) (mc ms : Nat) (h0 : Nat) (hp : zHp) (nx : Nat) (Post : zHp → Nat → Prop) : Prop :=
  (∃ c_1 s_2 : Nat, 0 + c_1 ≤ mc ∧ 0 + s_2 ≤ ms ∧ zMt l g yJ1_init cJ1_init 1 none d c_1 s_2 (.ref h0 :: []) hp nx (zQv g fun hp_3 nx_4 =>
  ((0 + c_1) ≤ mc ∧ (0 + s_2) ≤ ms ∧ Post hp_3 nx_4)))
set_option maxHeartbeats 40000000 in
theorem met_J2_init {l : Launch} {g : zG} {d : Nat} {mc ms : Nat} {h0 : Nat} {hp : zHp} {nx : Nat} {Post : zHp → Nat → Prop} (hw : wp_J2_init l g d mc ms h0 hp nx Post) : zMt l g yJ2_init cJ2_init 1 none (d + 1) mc ms [.ref h0] hp nx (zQv g Post) := by
  refine z_start (by decide) (Nat.le_of_ble_eq_true rfl) ?_
  intro p e s m below meth c hk hr hin hH hz ls hl
  have hx := hk.1.1
  have hb := hk.1.2.1
  have hown := hk.1.2.2.2.1
  have hts := hk.1.2.2.2.2
  have hS : va_S (zAd g) s.heap s.heap [] := va_S.rf
  have hl : lv_has ls 1 [(0, va_rf (some h0))] := hl
  unfold wp_J2_init at hw
  refine zr_aload_n (r := some h0) hx hb dJ2_init_0 rfl (lv_at hl 0 rfl) ?_
  obtain ⟨c_1, s_2, hcl, hsl, hw⟩ := hw
  refine zr_callv (zw_runI (As := []) (r := some h0) hk hH hz hS hl.1 rfl hw (cwI 0 hts (lw_meth q309) rfl rfl rfl (hts _ q134) (hts _ q358) (hts _ q308) rfl (by decide +kernel) (z_room (Nat.le_of_ble_eq_true rfl))) rfl rfl (Nat.le_of_ble_eq_true rfl) dJ2_init_1 ⟨hcl, hsl⟩) hS (fun hp_3 nx_4 hw H locs hH hz hS => ?_)
  obtain ⟨hkc, hks, hw⟩ := hw
  exact zr_vret hk hr hH hz hS hw hkc hks dJ2_init_4
def wp_J2_init_2 (l : Launch) (g : zG) (d : Nat) (mc ms : Nat) (h0 : Nat) (r1 : Option Nat) (hp : zHp) (nx : Nat) (Post : zHp → Nat → Prop) : Prop :=
  (∃ c_1 s_2 : Nat, 0 + c_1 ≤ mc ∧ 0 + s_2 ≤ ms ∧ zMt l g yJ1_init_2 cJ1_init_2 2 none d c_1 s_2 (.ref h0 :: [va_rf r1]) hp nx (zQv g fun hp_3 nx_4 =>
  ((0 + c_1) ≤ mc ∧ (0 + s_2) ≤ ms ∧ Post hp_3 nx_4)))
set_option maxHeartbeats 40000000 in
theorem met_J2_init_2 {l : Launch} {g : zG} {d : Nat} {mc ms : Nat} {h0 : Nat} {r1 : Option Nat} {hp : zHp} {nx : Nat} {Post : zHp → Nat → Prop} (hw : wp_J2_init_2 l g d mc ms h0 r1 hp nx Post) : zMt l g yJ2_init_2 cJ2_init_2 2 none (d + 1) mc ms [.ref h0, va_rf r1] hp nx (zQv g Post) := by
  refine z_start (by decide) (by cases r1 <;> exact Nat.le_of_ble_eq_true rfl) ?_
  intro p e s m below meth c hk hr hin hH hz ls hl
  have hx := hk.1.1
  have hb := hk.1.2.1
  have hown := hk.1.2.2.2.1
  have hts := hk.1.2.2.2.2
  have hS : va_S (zAd g) s.heap s.heap [] := va_S.rf
  have hl : lv_has ls 2 [(0, va_rf (some h0)), (1, va_rf r1)] := by cases r1 <;> exact hl
  unfold wp_J2_init_2 at hw
  refine zr_aload_n (r := some h0) hx hb dJ2_init_2_0 rfl (lv_at hl 0 rfl) ?_
  refine zr_aload_n (r := r1) hx hb dJ2_init_2_1 rfl (lv_at hl 1 rfl) ?_
  obtain ⟨c_1, s_2, hcl, hsl, hw⟩ := hw
  refine zr_callv (zw_runI (As := [va_rf r1]) (r := some h0) hk hH hz hS hl.1 rfl hw (cwI 1 hts (lw_meth q605) rfl rfl rfl (hts _ q134) (hts _ q603) (hts _ q604) rfl (by decide +kernel) (z_room (Nat.le_of_ble_eq_true rfl))) rfl rfl (Nat.le_of_ble_eq_true rfl) dJ2_init_2_2 ⟨hcl, hsl⟩) hS (fun hp_3 nx_4 hw H locs hH hz hS => ?_)
  obtain ⟨hkc, hks, hw⟩ := hw
  exact zr_vret hk hr hH hz hS hw hkc hks dJ2_init_2_5
def wp_J2_init_3 (l : Launch) (g : zG) (d : Nat) (mc ms : Nat) (h0 : Nat) (r1 : Option Nat) (hp : zHp) (nx : Nat) (Post : zHp → Nat → Prop) : Prop :=
  (∃ c_1 s_2 : Nat, 0 + c_1 ≤ mc ∧ 0 + s_2 ≤ ms ∧ zMt l g yJ1_init_3 cJ1_init_3 2 none d c_1 s_2 (.ref h0 :: [va_rf r1]) hp nx (zQv g fun hp_3 nx_4 =>
  ((0 + c_1) ≤ mc ∧ (0 + s_2) ≤ ms ∧ Post hp_3 nx_4)))
set_option maxHeartbeats 40000000 in
theorem met_J2_init_3 {l : Launch} {g : zG} {d : Nat} {mc ms : Nat} {h0 : Nat} {r1 : Option Nat} {hp : zHp} {nx : Nat} {Post : zHp → Nat → Prop} (hw : wp_J2_init_3 l g d mc ms h0 r1 hp nx Post) : zMt l g yJ2_init_3 cJ2_init_3 2 none (d + 1) mc ms [.ref h0, va_rf r1] hp nx (zQv g Post) := by
  refine z_start (by decide) (by cases r1 <;> exact Nat.le_of_ble_eq_true rfl) ?_
  intro p e s m below meth c hk hr hin hH hz ls hl
  have hx := hk.1.1
  have hb := hk.1.2.1
  have hown := hk.1.2.2.2.1
  have hts := hk.1.2.2.2.2
  have hS : va_S (zAd g) s.heap s.heap [] := va_S.rf
  have hl : lv_has ls 2 [(0, va_rf (some h0)), (1, va_rf r1)] := by cases r1 <;> exact hl
  unfold wp_J2_init_3 at hw
  refine zr_aload_n (r := some h0) hx hb dJ2_init_3_0 rfl (lv_at hl 0 rfl) ?_
  refine zr_aload_n (r := r1) hx hb dJ2_init_3_1 rfl (lv_at hl 1 rfl) ?_
  obtain ⟨c_1, s_2, hcl, hsl, hw⟩ := hw
  refine zr_callv (zw_runI (As := [va_rf r1]) (r := some h0) hk hH hz hS hl.1 rfl hw (cwI 1 hts (lw_meth q1101) rfl rfl rfl (hts _ q134) (hts _ q1099) (hts _ q1100) rfl (by decide +kernel) (z_room (Nat.le_of_ble_eq_true rfl))) rfl rfl (Nat.le_of_ble_eq_true rfl) dJ2_init_3_2 ⟨hcl, hsl⟩) hS (fun hp_3 nx_4 hw H locs hH hz hS => ?_)
  obtain ⟨hkc, hks, hw⟩ := hw
  exact zr_vret hk hr hH hz hS hw hkc hks dJ2_init_3_5
def wp_J2_init_4 (l : Launch) (g : zG) (d : Nat) (mc ms : Nat) (h0 : Nat) (r1 : Option Nat) (r2 : Option Nat) (x3 : Int32) (x4 : Int32) (hp : zHp) (nx : Nat) (Post : zHp → Nat → Prop) : Prop :=
  (∃ c_1 s_2 : Nat, 0 + c_1 ≤ mc ∧ 0 + s_2 ≤ ms ∧ zMt l g yJ1_init_4 cJ1_init_4 5 none d c_1 s_2 (.ref h0 :: [va_rf r1, va_rf r2, .int x3, .int x4]) hp nx (zQv g fun hp_3 nx_4 =>
  ((0 + c_1) ≤ mc ∧ (0 + s_2) ≤ ms ∧ Post hp_3 nx_4)))
set_option maxHeartbeats 40000000 in
theorem met_J2_init_4 {l : Launch} {g : zG} {d : Nat} {mc ms : Nat} {h0 : Nat} {r1 : Option Nat} {r2 : Option Nat} {x3 : Int32} {x4 : Int32} {hp : zHp} {nx : Nat} {Post : zHp → Nat → Prop} (hw : wp_J2_init_4 l g d mc ms h0 r1 r2 x3 x4 hp nx Post) : zMt l g yJ2_init_4 cJ2_init_4 5 none (d + 1) mc ms [.ref h0, va_rf r1, va_rf r2, .int x3, .int x4] hp nx (zQv g Post) := by
  refine z_start (by decide) (by cases r1 <;> cases r2 <;> exact Nat.le_of_ble_eq_true rfl) ?_
  intro p e s m below meth c hk hr hin hH hz ls hl
  have hx := hk.1.1
  have hb := hk.1.2.1
  have hown := hk.1.2.2.2.1
  have hts := hk.1.2.2.2.2
  have hS : va_S (zAd g) s.heap s.heap [] := va_S.rf
  have hl : lv_has ls 5 [(0, va_rf (some h0)), (1, va_rf r1), (2, va_rf r2), (3, .int x3), (4, .int x4)] := by cases r1 <;> cases r2 <;> exact hl
  unfold wp_J2_init_4 at hw
  refine zr_aload_n (r := some h0) hx hb dJ2_init_4_0 rfl (lv_at hl 0 rfl) ?_
  refine zr_aload_n (r := r1) hx hb dJ2_init_4_1 rfl (lv_at hl 1 rfl) ?_
  refine zr_aload_n (r := r2) hx hb dJ2_init_4_2 rfl (lv_at hl 2 rfl) ?_
  refine lv_iload_n hx hb dJ2_init_4_3 rfl (lv_at hl 3 rfl) ?_
  refine lv_iload hx hb dJ2_init_4_4 (lv_at hl 4 rfl) ?_
  obtain ⟨c_1, s_2, hcl, hsl, hw⟩ := hw
  refine zr_callv (zw_runI (As := [va_rf r1, va_rf r2, .int x3, .int x4]) (r := some h0) hk hH hz hS hl.1 rfl hw (cwI 4 hts (lw_meth q1196) rfl rfl rfl (hts _ q134) (hts _ q1194) (hts _ q1195) rfl (by decide +kernel) (z_room (Nat.le_of_ble_eq_true rfl))) rfl rfl (Nat.le_of_ble_eq_true rfl) dJ2_init_4_6 ⟨hcl, hsl⟩) hS (fun hp_3 nx_4 hw H locs hH hz hS => ?_)
  obtain ⟨hkc, hks, hw⟩ := hw
  exact zr_vret hk hr hH hz hS hw hkc hks dJ2_init_4_9
theorem ff_J21_1 {ci : Nat} (h : ci ∈ [38]) : zFf "java/util/LinkedList$ListItr" 1 ci 4 (.object "java/util/LinkedList") := by
  simp only [List.mem_cons, List.not_mem_nil, or_false] at h
  rcases h with rfl
  · exact ⟨RJ21, TJ21, 5, rfl, by decide, q1017, rfl, rfl, by decide +kernel⟩
theorem fk_J21_1 {ci : Nat} (h : ci ∈ [38]) : zFk "java/util/LinkedList$ListItr" 1 ci 4 := by
  simp only [List.mem_cons, List.not_mem_nil, or_false] at h
  rcases h with rfl
  · exact ⟨RJ21, TJ21, 5, rfl, by decide, q1017⟩
theorem fs_J21_13 {ci : Nat} (h : ci ∈ [36]) : zFkS "java/util/LinkedList$ListItr" 13 ci 0 := by
  simp only [List.mem_cons, List.not_mem_nil, or_false] at h
  rcases h with rfl
  · exact ⟨RJ27, TJ27, 4, "java/util/LinkedList", rfl, by decide, q1345, q1346⟩
theorem fp_J21_19 {ci : Nat} (h : ci ∈ [38]) : zFp "java/util/LinkedList$ListItr" 19 ci 3 .int := by
  simp only [List.mem_cons, List.not_mem_nil, or_false] at h
  rcases h with rfl
  · exact ⟨RJ21, TJ21, 5, rfl, by decide, q1016, rfl, by decide +kernel⟩
theorem fk_J21_22 {ci : Nat} (h : ci ∈ [36]) : zFk "java/util/LinkedList$ListItr" 22 ci 1 := by
  simp only [List.mem_cons, List.not_mem_nil, or_false] at h
  rcases h with rfl
  · exact ⟨RJ27, TJ27, 4, rfl, by decide, q1341⟩
theorem fp_J21_29 {ci : Nat} (h : ci ∈ [38]) : zFp "java/util/LinkedList$ListItr" 29 ci 1 (.object "java/util/LinkedList$Node") := by
  simp only [List.mem_cons, List.not_mem_nil, or_false] at h
  rcases h with rfl
  · exact ⟨RJ21, TJ21, 5, rfl, by decide, q1014, rfl, by decide +kernel⟩
theorem fp_J21_33 {ci : Nat} (h : ci ∈ [38]) : zFp "java/util/LinkedList$ListItr" 33 ci 2 .int := by
  simp only [List.mem_cons, List.not_mem_nil, or_false] at h
  rcases h with rfl
  · exact ⟨RJ21, TJ21, 5, rfl, by decide, q1015, rfl, by decide +kernel⟩
def wp_J21_init (l : Launch) (g : zG) (d : Nat) (h0 : Nat) (r1 : Option Nat) (x2 : Int32) (hp : zHp) (nx : Nat) (Post : zHp → Nat → Prop) : Prop :=
  (zpt g hp (some h0) [38] 4 (va_rf r1) fun hp_4 =>
  (zgR hp_4 (some h0) [38] 4 fun r_8 =>
  (zgI hp_4 r_8 [36] 0 fun x_12 =>
  (zpt g hp_4 (some h0) [38] 3 (.int x_12) fun hp_16 =>
  (zgI hp_16 r1 [36] 1 fun x_20 =>
  (∃ P_38 : (Option Nat) → (Option Nat) → zHp → Nat → Prop, (∀ (r_21 : Option Nat) (r_22 : Option Nat) (hp_23 : zHp) (nx_24 : Nat), P_38 r_21 r_22 hp_23 nx_24 →
  (zpt g hp_23 r_21 [38] 1 (va_rf r_22) fun hp_28 =>
  (zpt g hp_28 (some h0) [38] 2 (.int x2) fun hp_32 =>
  (Post hp_32 nx_24)))) ∧
  ((x2 = x_20 →
  P_38 (some h0) none hp_16 nx) ∧
  (¬ x2 = x_20 →
  (zo hp_16 r1 [36] fun a_36 ci_37 fs_38 => zMt l g yJ27_node cJ27_node 4 (some (.object "java/util/LinkedList$Node")) d 0 0 (.ref a_36 :: [.int x2]) hp_16 nx (zQq g fun r_35 hp_33 nx_34 =>
  P_38 (some h0) r_35 hp_33 nx_34))))))))))
set_option maxHeartbeats 40000000 in
theorem met_J21_init {l : Launch} {g : zG} {d : Nat} {h0 : Nat} {r1 : Option Nat} {x2 : Int32} {hp : zHp} {nx : Nat} {Post : zHp → Nat → Prop} (hw : wp_J21_init l g d h0 r1 x2 hp nx Post) : zMt l g yJ21_init cJ21_init 3 none (d + 1) 0 0 [.ref h0, va_rf r1, .int x2] hp nx (zQv g Post) := by
  refine z_start (by decide) (by cases r1 <;> exact Nat.le_of_ble_eq_true rfl) ?_
  intro p e s m below meth c hk hr hin hH hz ls hl
  have hx := hk.1.1
  have hb := hk.1.2.1
  have hown := hk.1.2.2.2.1
  have hts := hk.1.2.2.2.2
  have hS : va_S (zAd g) s.heap s.heap [] := va_S.rf
  have hl : lv_has ls 3 [(0, va_rf (some h0)), (1, va_rf r1), (2, .int x2)] := by cases r1 <;> exact hl
  unfold wp_J21_init at hw
  refine zr_aload_n (r := some h0) hx hb dJ21_init_0 rfl (lv_at hl 0 rfl) ?_
  refine zr_aload_n (r := r1) hx hb dJ21_init_1 rfl (lv_at hl 1 rfl) ?_
  obtain ⟨a_1, ci_2, fs_3, hp_4, er, he, hc, hA, hkl, eh, hw⟩ := zpt_e hw
  refine zw_putF hk hin hH hz hS er he hA hkl eh (ff_J21_1 hc) (z_narR _ _) (z_fitR _ _) dJ21_init_2 (fun H locs hH hz hS => ?_)
  refine zr_aload_n (r := some h0) hx hb dJ21_init_5 rfl (lv_at hl 0 rfl) ?_
  refine W.objInit (a := h0) hx hb hown (hts _ q1008) (hts _ q206) (hts _ q207) rfl (by rw [hk.1.2.2.1]; exact hl.1) rfl dJ21_init_6 (Nat.le_add_left 1 d) (Nat.le_trans (Nat.le_of_ble_eq_true rfl : _ ≤ 64) (by show 64 ≤ 64 * (d + 1); omega)) ?_
  refine W.eq (g2 := F0 m 9 ls []) rfl ?_
  refine zr_aload_n (r := some h0) hx hb dJ21_init_9 rfl (lv_at hl 0 rfl) ?_
  refine zr_aload_n (r := some h0) hx hb dJ21_init_10 rfl (lv_at hl 0 rfl) ?_
  obtain ⟨a_5, ci_6, fs_7, r_8, er, he, hc, hv, hw⟩ := zgR_e hw
  refine zw_get hk hH er he hv (fk_J21_1 hc) dJ21_init_11 ?_
  obtain ⟨a_9, ci_10, fs_11, x_12, er, he, hc, hv, hw⟩ := zgI_e hw
  refine zw_getS hk hH er he hv (fs_J21_13 hc) dJ21_init_14 ?_
  obtain ⟨a_13, ci_14, fs_15, hp_16, er, he, hc, hA, hkl, eh, hw⟩ := zpt_e hw
  refine zw_put hk hH hz hS er he hA hkl eh (fp_J21_19 hc) rfl rfl dJ21_init_17 (fun H locs hH hz hS => ?_)
  refine zr_aload_n (r := some h0) hx hb dJ21_init_20 rfl (lv_at hl 0 rfl) ?_
  refine lv_iload_n hx hb dJ21_init_21 rfl (lv_at hl 2 rfl) ?_
  refine zr_aload_n (r := r1) hx hb dJ21_init_22 rfl (lv_at hl 1 rfl) ?_
  obtain ⟨a_17, ci_18, fs_19, x_20, er, he, hc, hv, hw⟩ := zgI_e hw
  refine zw_get hk hH er he hv (fk_J21_22 hc) dJ21_init_23 ?_
  obtain ⟨P_38, hP_38, hw⟩ := hw
  have hJ_38 : ∀ (r_21 : Option Nat) (r_22 : Option Nat) (hp_23 : zHp) (nx_24 : Nat) (H : Heap) (locs : List Loc) (ls : Array Slot), P_38 r_21 r_22 hp_23 nx_24 → lv_has ls 3 [(0, va_rf (some h0)), (1, va_rf r1), (2, .int x2)] → zHd g hp_23 H → H.size = nx_24 → va_S (zAd g) s.heap H locs → W p l e (zrm (d + 1) 0 0) s m ([.ref h0, va_rf r1, .int x2] : List Value).toArray below meth c H locs 0 0 (MQ below (zQv g Post) ([.ref h0, va_rf r1, .int x2] : List Value).toArray s 0 0 (zAd g)) (F0 m 38 ls [va_rf r_22, va_rf r_21]) := by
    intro r_21 r_22 hp_23 nx_24 H locs ls hw hl hH hz hS
    have hw := hP_38 r_21 r_22 hp_23 nx_24 hw
    obtain ⟨a_25, ci_26, fs_27, hp_28, er, he, hc, hA, hkl, eh, hw⟩ := zpt_e hw
    refine zw_put hk hH hz hS er he hA hkl eh (fp_J21_29 hc) (z_narR _ _) (z_fitR _ _) dJ21_init_38 (fun H locs hH hz hS => ?_)
    refine zr_aload_n (r := some h0) hx hb dJ21_init_41 rfl (lv_at hl 0 rfl) ?_
    refine lv_iload_n hx hb dJ21_init_42 rfl (lv_at hl 2 rfl) ?_
    obtain ⟨a_29, ci_30, fs_31, hp_32, er, he, hc, hA, hkl, eh, hw⟩ := zpt_e hw
    refine zw_put hk hH hz hS er he hA hkl eh (fp_J21_33 hc) rfl rfl dJ21_init_43 (fun H locs hH hz hS => ?_)
    exact zr_vret hk hr hH hz hS hw (Nat.le_of_ble_eq_true rfl) (Nat.le_of_ble_eq_true rfl) dJ21_init_46
  refine lv_icmp_ne (tgt := 33) hx hb dJ21_init_26 (by decide) (fun hc => ?_) (fun hc => ?_)
  · have hw := hw.2 hc
    refine zr_aload_n (r := r1) hx hb dJ21_init_33 rfl (lv_at hl 1 rfl) ?_
    refine lv_iload_n hx hb dJ21_init_34 rfl (lv_at hl 2 rfl) ?_
    obtain ⟨a_36, ci_37, fs_38, er, he, hc, hw⟩ := zo_e hw
    obtain rfl := List.mem_singleton.mp hc
    refine zr_callq (zw_runV (As := [.int x2]) hk hH hz hS hl.1 er hw (cwV 1 hts (lw_V q1009 q1010 q1011 q173 q1012) rfl rfl rfl (by decide +kernel) (z_room (Nat.le_of_ble_eq_true rfl))) he rfl rfl rfl (by simp only [List.map_cons, List.map_nil, z_cat]; exact Nat.le_of_ble_eq_true rfl) dJ21_init_35 ⟨Nat.le_of_ble_eq_true rfl, Nat.le_of_ble_eq_true rfl⟩) hS (fun r_35 hp_33 nx_34 hw H locs hH hz hS => ?_)
    exact hJ_38 (some h0) r_35 hp_33 nx_34 _ _ _ hw hl hH hz hS
  · have hw := hw.1 hc
    refine zx_null hx hb dJ21_init_29 ?_
    refine lv_goto (tgt := 38) hx hb dJ21_init_30 (by decide) ?_
    exact hJ_38 (some h0) none hp_16 nx _ _ _ hw hl hH hz hS
theorem fk_J21_33 {ci : Nat} (h : ci ∈ [38]) : zFk "java/util/LinkedList$ListItr" 33 ci 2 := by
  simp only [List.mem_cons, List.not_mem_nil, or_false] at h
  rcases h with rfl
  · exact ⟨RJ21, TJ21, 5, rfl, by decide, q1015⟩
def wp_J21_hasNext (l : Launch) (g : zG) (d : Nat) (h0 : Nat) (hp : zHp) (nx : Nat) (Post : Int32 → zHp → Nat → Prop) : Prop :=
  (zgI hp (some h0) [38] 2 fun x_4 =>
  (zgR hp (some h0) [38] 4 fun r_8 =>
  (zgI hp r_8 [36] 1 fun x_12 =>
  (∃ P_19 : Int32 → Prop, (∀ (x_13 : Int32), P_19 x_13 →
  (((x_13 = 0 ∨ x_13 = 1) ∧ Post x_13 hp nx))) ∧
  ((x_12 ≤ x_4 →
  P_19 (0 : Int32)) ∧
  (¬ x_12 ≤ x_4 →
  P_19 (1 : Int32)))))))
set_option maxHeartbeats 40000000 in
theorem met_J21_hasNext {l : Launch} {g : zG} {d : Nat} {h0 : Nat} {hp : zHp} {nx : Nat} {Post : Int32 → zHp → Nat → Prop} (hw : wp_J21_hasNext l g d h0 hp nx Post) : zMt l g yJ21_hasNext cJ21_hasNext 1 (some .boolean) (d + 1) 0 0 [.ref h0] hp nx (zQi g Post) := by
  refine z_start (by decide) (Nat.le_of_ble_eq_true rfl) ?_
  intro p e s m below meth c hk hr hin hH hz ls hl
  have hx := hk.1.1
  have hb := hk.1.2.1
  have hown := hk.1.2.2.2.1
  have hts := hk.1.2.2.2.2
  have hS : va_S (zAd g) s.heap s.heap [] := va_S.rf
  have hl : lv_has ls 1 [(0, va_rf (some h0))] := hl
  unfold wp_J21_hasNext at hw
  refine zr_aload_n (r := some h0) hx hb dJ21_hasNext_0 rfl (lv_at hl 0 rfl) ?_
  obtain ⟨a_1, ci_2, fs_3, x_4, er, he, hc, hv, hw⟩ := zgI_e hw
  refine zw_get hk hH er he hv (fk_J21_33 hc) dJ21_hasNext_1 ?_
  refine zr_aload_n (r := some h0) hx hb dJ21_hasNext_4 rfl (lv_at hl 0 rfl) ?_
  obtain ⟨a_5, ci_6, fs_7, r_8, er, he, hc, hv, hw⟩ := zgR_e hw
  refine zw_get hk hH er he hv (fk_J21_1 hc) dJ21_hasNext_5 ?_
  obtain ⟨a_9, ci_10, fs_11, x_12, er, he, hc, hv, hw⟩ := zgI_e hw
  refine zw_get hk hH er he hv (fk_J21_22 hc) dJ21_hasNext_8 ?_
  obtain ⟨P_19, hP_19, hw⟩ := hw
  have hJ_19 : ∀ (x_13 : Int32) (H : Heap) (locs : List Loc) (ls : Array Slot), P_19 x_13 → lv_has ls 1 [(0, va_rf (some h0))] → zHd g hp H → H.size = nx → va_S (zAd g) s.heap H locs → W p l e (zrm (d + 1) 0 0) s m ([.ref h0] : List Value).toArray below meth c H locs 0 0 (MQ below (zQi g Post) ([.ref h0] : List Value).toArray s 0 0 (zAd g)) (F0 m 19 ls [.int x_13]) := by
    intro x_13 H locs ls hw hl hH hz hS
    have hw := hP_19 x_13 hw
    exact zr_zret hk hr hH hz hS hw.1 hw.2 (Nat.le_of_ble_eq_true rfl) (Nat.le_of_ble_eq_true rfl) dJ21_hasNext_19
  refine lv_icmp_ge (tgt := 18) hx hb dJ21_hasNext_11 (by decide) (fun hc => ?_) (fun hc => ?_)
  · have hw := hw.1 hc
    refine lv_iconst (v := (0 : Int32)) hx hb dJ21_hasNext_18 (by decide) ?_
    exact hJ_19 (0 : Int32) _ _ _ hw hl hH hz hS
  · have hw := hw.2 hc
    refine lv_iconst (v := (1 : Int32)) hx hb dJ21_hasNext_14 (by decide) ?_
    refine lv_goto (tgt := 19) hx hb dJ21_hasNext_15 (by decide) ?_
    exact hJ_19 (1 : Int32) _ _ _ hw hl hH hz hS
theorem fk_J21_29 {ci : Nat} (h : ci ∈ [38]) : zFk "java/util/LinkedList$ListItr" 29 ci 1 := by
  simp only [List.mem_cons, List.not_mem_nil, or_false] at h
  rcases h with rfl
  · exact ⟨RJ21, TJ21, 5, rfl, by decide, q1014⟩
theorem fp_J21_46 {ci : Nat} (h : ci ∈ [38]) : zFp "java/util/LinkedList$ListItr" 46 ci 0 (.object "java/util/LinkedList$Node") := by
  simp only [List.mem_cons, List.not_mem_nil, or_false] at h
  rcases h with rfl
  · exact ⟨RJ21, TJ21, 5, rfl, by decide, q1013, rfl, by decide +kernel⟩
theorem fk_J21_49 {ci : Nat} (h : ci ∈ [37]) : zFk "java/util/LinkedList$ListItr" 49 ci 1 := by
  simp only [List.mem_cons, List.not_mem_nil, or_false] at h
  rcases h with rfl
  · exact ⟨RJ29, TJ29, 3, rfl, by decide, q1666⟩
theorem fk_J21_46 {ci : Nat} (h : ci ∈ [38]) : zFk "java/util/LinkedList$ListItr" 46 ci 0 := by
  simp only [List.mem_cons, List.not_mem_nil, or_false] at h
  rcases h with rfl
  · exact ⟨RJ21, TJ21, 5, rfl, by decide, q1013⟩
theorem fk_J21_52 {ci : Nat} (h : ci ∈ [37]) : zFk "java/util/LinkedList$ListItr" 52 ci 0 := by
  simp only [List.mem_cons, List.not_mem_nil, or_false] at h
  rcases h with rfl
  · exact ⟨RJ29, TJ29, 3, rfl, by decide, q1663⟩
def wp_J21_next (l : Launch) (g : zG) (d : Nat) (h0 : Nat) (hp : zHp) (nx : Nat) (Post : Option Nat → zHp → Nat → Prop) : Prop :=
  (zo hp (some h0) [38] fun a_45 ci_46 fs_47 => zMt l g yJ21_checkForComodification cJ21_checkForComodification 1 none d 0 0 (.ref a_45 :: []) hp nx (zQv g fun hp_1 nx_2 =>
  (zo hp_1 (some h0) [38] fun a_42 ci_43 fs_44 => zMt l g yJ21_hasNext cJ21_hasNext 1 (some .boolean) d 0 0 (.ref a_42 :: []) hp_1 nx_2 (zQi g fun x_5 hp_3 nx_4 =>
  ((x_5 = 0 →
  False) ∧
  (¬ x_5 = 0 →
  (zgR hp_3 (some h0) [38] 1 fun r_9 =>
  (zpt g hp_3 (some h0) [38] 0 (va_rf r_9) fun hp_13 =>
  (zgR hp_13 (some h0) [38] 1 fun r_17 =>
  (zgR hp_13 r_17 [37] 1 fun r_21 =>
  (zpt g hp_13 (some h0) [38] 1 (va_rf r_21) fun hp_25 =>
  (zgI hp_25 (some h0) [38] 2 fun x_29 =>
  (zpt g hp_25 (some h0) [38] 2 (.int (x_29 + (1 : Int32))) fun hp_33 =>
  (zgR hp_33 (some h0) [38] 0 fun r_37 =>
  (zgR hp_33 r_37 [37] 0 fun r_41 =>
  (Post r_41 hp_33 nx_4))))))))))))))))
set_option maxHeartbeats 40000000 in
theorem met_J21_next {l : Launch} {g : zG} {d : Nat} {h0 : Nat} {hp : zHp} {nx : Nat} {Post : Option Nat → zHp → Nat → Prop} (hw : wp_J21_next l g d h0 hp nx Post) : zMt l g yJ21_next cJ21_next 1 (some (.object "java/lang/Object")) (d + 1) 0 0 [.ref h0] hp nx (zQq g Post) := by
  refine z_start (by decide) (Nat.le_of_ble_eq_true rfl) ?_
  intro p e s m below meth c hk hr hin hH hz ls hl
  have hx := hk.1.1
  have hb := hk.1.2.1
  have hown := hk.1.2.2.2.1
  have hts := hk.1.2.2.2.2
  have hS : va_S (zAd g) s.heap s.heap [] := va_S.rf
  have hl : lv_has ls 1 [(0, va_rf (some h0))] := hl
  unfold wp_J21_next at hw
  refine zr_aload_n (r := some h0) hx hb dJ21_next_0 rfl (lv_at hl 0 rfl) ?_
  obtain ⟨a_45, ci_46, fs_47, er, he, hc, hw⟩ := zo_e hw
  obtain rfl := List.mem_singleton.mp hc
  refine zr_callv (zw_runV (As := []) hk hH hz hS hl.1 er hw (cwV 0 hts (lw_V q1151 q1152 q1153 q159 q1154) rfl rfl rfl (by decide +kernel) (z_room (Nat.le_of_ble_eq_true rfl))) he rfl rfl rfl (Nat.le_of_ble_eq_true rfl) dJ21_next_1 ⟨Nat.le_of_ble_eq_true rfl, Nat.le_of_ble_eq_true rfl⟩) hS (fun hp_1 nx_2 hw H locs hH hz hS => ?_)
  refine zr_aload_n (r := some h0) hx hb dJ21_next_4 rfl (lv_at hl 0 rfl) ?_
  obtain ⟨a_42, ci_43, fs_44, er, he, hc, hw⟩ := zo_e hw
  obtain rfl := List.mem_singleton.mp hc
  refine zr_calli (zw_runV (As := []) hk hH hz hS hl.1 er hw (cwV 0 hts (lw_V q1155 q1049 q3355 q159 q1051) rfl rfl rfl (by decide +kernel) (z_room (Nat.le_of_ble_eq_true rfl))) he rfl rfl rfl (Nat.le_of_ble_eq_true rfl) dJ21_next_5 ⟨Nat.le_of_ble_eq_true rfl, Nat.le_of_ble_eq_true rfl⟩) hS (fun x_5 hp_3 nx_4 hw H locs hH hz hS => ?_)
  refine lv_if_ne (tgt := 19) hx hb dJ21_next_8 (by decide) (fun hc => ?_) (fun hc => ?_)
  · have hw := hw.2 hc
    refine zr_aload_n (r := some h0) hx hb dJ21_next_19 rfl (lv_at hl 0 rfl) ?_
    refine zr_aload_n (r := some h0) hx hb dJ21_next_20 rfl (lv_at hl 0 rfl) ?_
    obtain ⟨a_6, ci_7, fs_8, r_9, er, he, hc, hv, hw⟩ := zgR_e hw
    refine zw_get hk hH er he hv (fk_J21_29 hc) dJ21_next_21 ?_
    obtain ⟨a_10, ci_11, fs_12, hp_13, er, he, hc, hA, hkl, eh, hw⟩ := zpt_e hw
    refine zw_put hk hH hz hS er he hA hkl eh (fp_J21_46 hc) (z_narR _ _) (z_fitR _ _) dJ21_next_24 (fun H locs hH hz hS => ?_)
    refine zr_aload_n (r := some h0) hx hb dJ21_next_27 rfl (lv_at hl 0 rfl) ?_
    refine zr_aload_n (r := some h0) hx hb dJ21_next_28 rfl (lv_at hl 0 rfl) ?_
    obtain ⟨a_14, ci_15, fs_16, r_17, er, he, hc, hv, hw⟩ := zgR_e hw
    refine zw_get hk hH er he hv (fk_J21_29 hc) dJ21_next_29 ?_
    obtain ⟨a_18, ci_19, fs_20, r_21, er, he, hc, hv, hw⟩ := zgR_e hw
    refine zw_get hk hH er he hv (fk_J21_49 hc) dJ21_next_32 ?_
    obtain ⟨a_22, ci_23, fs_24, hp_25, er, he, hc, hA, hkl, eh, hw⟩ := zpt_e hw
    refine zw_put hk hH hz hS er he hA hkl eh (fp_J21_29 hc) (z_narR _ _) (z_fitR _ _) dJ21_next_35 (fun H locs hH hz hS => ?_)
    refine zr_aload_n (r := some h0) hx hb dJ21_next_38 rfl (lv_at hl 0 rfl) ?_
    refine lv_dup hx hb dJ21_next_39 (z_cat _) ?_
    obtain ⟨a_26, ci_27, fs_28, x_29, er, he, hc, hv, hw⟩ := zgI_e hw
    refine zw_get hk hH er he hv (fk_J21_33 hc) dJ21_next_40 ?_
    refine lv_iconst (v := (1 : Int32)) hx hb dJ21_next_43 (by decide) ?_
    refine lv_iadd hx hb dJ21_next_44 ?_
    obtain ⟨a_30, ci_31, fs_32, hp_33, er, he, hc, hA, hkl, eh, hw⟩ := zpt_e hw
    refine zw_put hk hH hz hS er he hA hkl eh (fp_J21_33 hc) rfl rfl dJ21_next_45 (fun H locs hH hz hS => ?_)
    refine zr_aload_n (r := some h0) hx hb dJ21_next_48 rfl (lv_at hl 0 rfl) ?_
    obtain ⟨a_34, ci_35, fs_36, r_37, er, he, hc, hv, hw⟩ := zgR_e hw
    refine zw_get hk hH er he hv (fk_J21_46 hc) dJ21_next_49 ?_
    obtain ⟨a_38, ci_39, fs_40, r_41, er, he, hc, hv, hw⟩ := zgR_e hw
    refine zw_get hk hH er he hv (fk_J21_52 hc) dJ21_next_52 ?_
    exact zr_aret (r := r_41) hk hr (Or.inl ⟨_, rfl⟩) hH hz hS hw (Nat.le_of_ble_eq_true rfl) (Nat.le_of_ble_eq_true rfl) dJ21_next_55
  · have hw := hw.1 hc
    exact hw.elim
theorem fk_J21_19 {ci : Nat} (h : ci ∈ [38]) : zFk "java/util/LinkedList$ListItr" 19 ci 3 := by
  simp only [List.mem_cons, List.not_mem_nil, or_false] at h
  rcases h with rfl
  · exact ⟨RJ21, TJ21, 5, rfl, by decide, q1016⟩
def wp_J21_checkForComodification (l : Launch) (g : zG) (d : Nat) (h0 : Nat) (hp : zHp) (nx : Nat) (Post : zHp → Nat → Prop) : Prop :=
  (zgR hp (some h0) [38] 4 fun r_4 =>
  (zgI hp r_4 [36] 0 fun x_8 =>
  (zgI hp (some h0) [38] 3 fun x_12 =>
  ((x_8 = x_12 →
  (Post hp nx)) ∧
  (¬ x_8 = x_12 →
  False)))))
set_option maxHeartbeats 40000000 in
theorem met_J21_checkForComodification {l : Launch} {g : zG} {d : Nat} {h0 : Nat} {hp : zHp} {nx : Nat} {Post : zHp → Nat → Prop} (hw : wp_J21_checkForComodification l g d h0 hp nx Post) : zMt l g yJ21_checkForComodification cJ21_checkForComodification 1 none (d + 1) 0 0 [.ref h0] hp nx (zQv g Post) := by
  refine z_start (by decide) (Nat.le_of_ble_eq_true rfl) ?_
  intro p e s m below meth c hk hr hin hH hz ls hl
  have hx := hk.1.1
  have hb := hk.1.2.1
  have hown := hk.1.2.2.2.1
  have hts := hk.1.2.2.2.2
  have hS : va_S (zAd g) s.heap s.heap [] := va_S.rf
  have hl : lv_has ls 1 [(0, va_rf (some h0))] := hl
  unfold wp_J21_checkForComodification at hw
  refine zr_aload_n (r := some h0) hx hb dJ21_checkForComodification_0 rfl (lv_at hl 0 rfl) ?_
  obtain ⟨a_1, ci_2, fs_3, r_4, er, he, hc, hv, hw⟩ := zgR_e hw
  refine zw_get hk hH er he hv (fk_J21_1 hc) dJ21_checkForComodification_1 ?_
  obtain ⟨a_5, ci_6, fs_7, x_8, er, he, hc, hv, hw⟩ := zgI_e hw
  refine zw_getS hk hH er he hv (fs_J21_13 hc) dJ21_checkForComodification_4 ?_
  refine zr_aload_n (r := some h0) hx hb dJ21_checkForComodification_7 rfl (lv_at hl 0 rfl) ?_
  obtain ⟨a_9, ci_10, fs_11, x_12, er, he, hc, hv, hw⟩ := zgI_e hw
  refine zw_get hk hH er he hv (fk_J21_19 hc) dJ21_checkForComodification_8 ?_
  refine lv_icmp_eq (tgt := 22) hx hb dJ21_checkForComodification_11 (by decide) (fun hc => ?_) (fun hc => ?_)
  · have hw := hw.1 hc
    exact zr_vret hk hr hH hz hS hw (Nat.le_of_ble_eq_true rfl) (Nat.le_of_ble_eq_true rfl) dJ21_checkForComodification_22
  · have hw := hw.2 hc
    exact hw.elim
def wp_J23_doubleToLongBits (l : Launch) (g : zG) (d : Nat) (x0 : UInt64) (hp : zHp) (nx : Nat) (Post : Int64 → zHp → Nat → Prop) : Prop :=
  (zMt l g yJ23_isNaN cJ23_isNaN 2 (some .boolean) d 0 0 [.double x0] hp nx (zQi g fun x_3 hp_1 nx_2 =>
  ((x_3 = 0 →
  (Post x0.toInt64 hp_1 nx_2)) ∧
  (¬ x_3 = 0 →
  (Post (9221120237041090560 : Int64) hp_1 nx_2)))))
set_option maxHeartbeats 40000000 in
theorem met_J23_doubleToLongBits {l : Launch} {g : zG} {d : Nat} {x0 : UInt64} {hp : zHp} {nx : Nat} {Post : Int64 → zHp → Nat → Prop} (hw : wp_J23_doubleToLongBits l g d x0 hp nx Post) : zMt l g yJ23_doubleToLongBits cJ23_doubleToLongBits 2 (some .long) (d + 1) 0 0 [.double x0] hp nx (zQl g Post) := by
  refine z_start (by decide) (Nat.le_of_ble_eq_true rfl) ?_
  intro p e s m below meth c hk hr hin hH hz ls hl
  have hx := hk.1.1
  have hb := hk.1.2.1
  have hown := hk.1.2.2.2.1
  have hts := hk.1.2.2.2.2
  have hS : va_S (zAd g) s.heap s.heap [] := va_S.rf
  have hl : lv_has ls 2 [(0, .double x0)] := hl
  unfold wp_J23_doubleToLongBits at hw
  refine lv_dload_n hx hb dJ23_doubleToLongBits_0 rfl (lv_at hl 0 rfl) ?_
  refine zr_calli (zr_runS (As := [.double x0]) hk hH hz hS hl.1 hw (va_cwS 1 hts (lw_S q2303 q2304 q168 q2305) rfl rfl rfl (by decide +kernel) (z_room (Nat.le_of_ble_eq_true rfl))) rfl rfl (Nat.le_of_ble_eq_true rfl) dJ23_doubleToLongBits_1 ⟨Nat.le_of_ble_eq_true rfl, Nat.le_of_ble_eq_true rfl⟩) hS (fun x_3 hp_1 nx_2 hw H locs hH hz hS => ?_)
  refine lv_if_ne (tgt := 12) hx hb dJ23_doubleToLongBits_4 (by decide) (fun hc => ?_) (fun hc => ?_)
  · have hw := hw.2 hc
    refine lv_ldc2 hx hb hown (hts _ q2309) dJ23_doubleToLongBits_12 ?_
    exact zr_lret hk hr hH hz hS hw (Nat.le_of_ble_eq_true rfl) (Nat.le_of_ble_eq_true rfl) dJ23_doubleToLongBits_15
  · have hw := hw.1 hc
    refine lv_dload_n hx hb dJ23_doubleToLongBits_7 rfl (lv_at hl 0 rfl) ?_
    refine zw_d2l hk hl.1 q2306 q2308 q2307 q168 (Nat.le_add_left 1 d) (Nat.le_trans (Nat.le_of_ble_eq_true rfl : _ ≤ 64) (by show 64 ≤ 64 * (d + 1); omega)) dJ23_doubleToLongBits_8 ?_
    exact zr_lret hk hr hH hz hS hw (Nat.le_of_ble_eq_true rfl) (Nat.le_of_ble_eq_true rfl) dJ23_doubleToLongBits_11
def wp_J23_isNaN (l : Launch) (g : zG) (d : Nat) (x0 : UInt64) (hp : zHp) (nx : Nat) (Post : Int32 → zHp → Nat → Prop) : Prop :=
  (∃ P_11 : Int32 → Prop, (∀ (x_1 : Int32), P_11 x_1 →
  (((x_1 = 0 ∨ x_1 = 1) ∧ Post x_1 hp nx))) ∧
  (((Op.cmpValue (FP.dcmp x0 x0) .l) = 0 →
  P_11 (0 : Int32)) ∧
  (¬ (Op.cmpValue (FP.dcmp x0 x0) .l) = 0 →
  P_11 (1 : Int32))))
set_option maxHeartbeats 40000000 in
theorem met_J23_isNaN {l : Launch} {g : zG} {d : Nat} {x0 : UInt64} {hp : zHp} {nx : Nat} {Post : Int32 → zHp → Nat → Prop} (hw : wp_J23_isNaN l g d x0 hp nx Post) : zMt l g yJ23_isNaN cJ23_isNaN 2 (some .boolean) (d + 1) 0 0 [.double x0] hp nx (zQi g Post) := by
  refine z_start (by decide) (Nat.le_of_ble_eq_true rfl) ?_
  intro p e s m below meth c hk hr hin hH hz ls hl
  have hx := hk.1.1
  have hb := hk.1.2.1
  have hown := hk.1.2.2.2.1
  have hts := hk.1.2.2.2.2
  have hS : va_S (zAd g) s.heap s.heap [] := va_S.rf
  have hl : lv_has ls 2 [(0, .double x0)] := hl
  unfold wp_J23_isNaN at hw
  refine lv_dload_n hx hb dJ23_isNaN_0 rfl (lv_at hl 0 rfl) ?_
  refine lv_dload_n hx hb dJ23_isNaN_1 rfl (lv_at hl 0 rfl) ?_
  refine lv_dcmp hx hb dJ23_isNaN_2 ?_
  obtain ⟨P_11, hP_11, hw⟩ := hw
  have hJ_11 : ∀ (x_1 : Int32) (H : Heap) (locs : List Loc) (ls : Array Slot), P_11 x_1 → lv_has ls 2 [(0, .double x0)] → zHd g hp H → H.size = nx → va_S (zAd g) s.heap H locs → W p l e (zrm (d + 1) 0 0) s m ([.double x0] : List Value).toArray below meth c H locs 0 0 (MQ below (zQi g Post) ([.double x0] : List Value).toArray s 0 0 (zAd g)) (F0 m 11 ls [.int x_1]) := by
    intro x_1 H locs ls hw hl hH hz hS
    have hw := hP_11 x_1 hw
    exact zr_zret hk hr hH hz hS hw.1 hw.2 (Nat.le_of_ble_eq_true rfl) (Nat.le_of_ble_eq_true rfl) dJ23_isNaN_11
  refine lv_if_eq (tgt := 10) hx hb dJ23_isNaN_3 (by decide) (fun hc => ?_) (fun hc => ?_)
  · have hw := hw.1 hc
    refine lv_iconst (v := (0 : Int32)) hx hb dJ23_isNaN_10 (by decide) ?_
    exact hJ_11 (0 : Int32) _ _ _ hw hl hH hz hS
  · have hw := hw.2 hc
    refine lv_iconst (v := (1 : Int32)) hx hb dJ23_isNaN_6 (by decide) ?_
    refine lv_goto (tgt := 11) hx hb dJ23_isNaN_7 (by decide) ?_
    exact hJ_11 (1 : Int32) _ _ _ hw hl hH hz hS
def wp_J25_listIterator (l : Launch) (g : zG) (d : Nat) (mc ms : Nat) (h0 : Nat) (hp : zHp) (nx : Nat) (Post : Option Nat → zHp → Nat → Prop) : Prop :=
  (∃ c_1 s_2 : Nat, 0 + c_1 ≤ mc ∧ 0 + s_2 ≤ ms ∧ zo hp (some h0) [36] fun a_6 ci_7 fs_8 => zMt l g yJ27_listIterator cJ27_listIterator 2 (some (.object "java/util/ListIterator")) d c_1 s_2 (.ref a_6 :: [.int (0 : Int32)]) hp nx (zQq g fun r_5 hp_3 nx_4 =>
  ((0 + c_1) ≤ mc ∧ (0 + s_2) ≤ ms ∧ Post r_5 hp_3 nx_4)))
set_option maxHeartbeats 40000000 in
theorem met_J25_listIterator {l : Launch} {g : zG} {d : Nat} {mc ms : Nat} {h0 : Nat} {hp : zHp} {nx : Nat} {Post : Option Nat → zHp → Nat → Prop} (hw : wp_J25_listIterator l g d mc ms h0 hp nx Post) : zMt l g yJ25_listIterator cJ25_listIterator 1 (some (.object "java/util/ListIterator")) (d + 1) mc ms [.ref h0] hp nx (zQq g Post) := by
  refine z_start (by decide) (Nat.le_of_ble_eq_true rfl) ?_
  intro p e s m below meth c hk hr hin hH hz ls hl
  have hx := hk.1.1
  have hb := hk.1.2.1
  have hown := hk.1.2.2.2.1
  have hts := hk.1.2.2.2.2
  have hS : va_S (zAd g) s.heap s.heap [] := va_S.rf
  have hl : lv_has ls 1 [(0, va_rf (some h0))] := hl
  unfold wp_J25_listIterator at hw
  refine zr_aload_n (r := some h0) hx hb dJ25_listIterator_0 rfl (lv_at hl 0 rfl) ?_
  refine lv_iconst (v := (0 : Int32)) hx hb dJ25_listIterator_1 (by decide) ?_
  obtain ⟨c_1, s_2, hcl, hsl, hw⟩ := hw
  obtain ⟨a_6, ci_7, fs_8, er, he, hc, hw⟩ := zo_e hw
  obtain rfl := List.mem_singleton.mp hc
  refine zr_callq (zw_runU (As := [.int (0 : Int32)]) hk hH hz hS hl.1 er hw (va_cwA 1 hts (z_U q975 q977 q978 q979 q173 q980) rfl rfl rfl (hk.2.2.1.1 _ q1029 rfl) (by decide +kernel) (z_room (Nat.le_of_ble_eq_true rfl))) he rfl rfl rfl (Nat.le_of_ble_eq_true rfl) dJ25_listIterator_2 ⟨hcl, hsl⟩) hS (fun r_5 hp_3 nx_4 hw H locs hH hz hS => ?_)
  obtain ⟨hkc, hks, hw⟩ := hw
  exact zr_aret (r := r_5) hk hr (Or.inl ⟨_, rfl⟩) hH hz hS hw hkc hks dJ25_listIterator_5
theorem fp_J25_7 {ci : Nat} (h : ci ∈ [36]) : zFp "java/util/AbstractList" 7 ci 0 .int := by
  simp only [List.mem_cons, List.not_mem_nil, or_false] at h
  rcases h with rfl
  · exact ⟨RJ27, TJ27, 4, rfl, by decide, q1344, rfl, by decide +kernel⟩
def wp_J25_init (l : Launch) (g : zG) (d : Nat) (h0 : Nat) (hp : zHp) (nx : Nat) (Post : zHp → Nat → Prop) : Prop :=
  (zMt l g yJ16_init cJ16_init 1 none d 0 0 (.ref h0 :: []) hp nx (zQv g fun hp_1 nx_2 =>
  (zpt g hp_1 (some h0) [36] 0 (.int (0 : Int32)) fun hp_6 =>
  (Post hp_6 nx_2))))
set_option maxHeartbeats 40000000 in
theorem met_J25_init {l : Launch} {g : zG} {d : Nat} {h0 : Nat} {hp : zHp} {nx : Nat} {Post : zHp → Nat → Prop} (hw : wp_J25_init l g d h0 hp nx Post) : zMt l g yJ25_init cJ25_init 1 none (d + 1) 0 0 [.ref h0] hp nx (zQv g Post) := by
  refine z_start (by decide) (Nat.le_of_ble_eq_true rfl) ?_
  intro p e s m below meth c hk hr hin hH hz ls hl
  have hx := hk.1.1
  have hb := hk.1.2.1
  have hown := hk.1.2.2.2.1
  have hts := hk.1.2.2.2.2
  have hS : va_S (zAd g) s.heap s.heap [] := va_S.rf
  have hl : lv_has ls 1 [(0, va_rf (some h0))] := hl
  unfold wp_J25_init at hw
  refine zr_aload_n (r := some h0) hx hb dJ25_init_0 rfl (lv_at hl 0 rfl) ?_
  refine zr_callv (zw_runI (As := []) (r := some h0) hk hH hz hS hl.1 rfl hw (cwI 0 hts (lw_meth q631) rfl rfl rfl (hts _ q150) (hts _ q1339) (hts _ q630) rfl (by decide +kernel) (z_room (Nat.le_of_ble_eq_true rfl))) rfl rfl (Nat.le_of_ble_eq_true rfl) dJ25_init_1 ⟨Nat.le_of_ble_eq_true rfl, Nat.le_of_ble_eq_true rfl⟩) hS (fun hp_1 nx_2 hw H locs hH hz hS => ?_)
  refine zr_aload_n (r := some h0) hx hb dJ25_init_4 rfl (lv_at hl 0 rfl) ?_
  refine lv_iconst (v := (0 : Int32)) hx hb dJ25_init_5 (by decide) ?_
  obtain ⟨a_3, ci_4, fs_5, hp_6, er, he, hc, hA, hkl, eh, hw⟩ := zpt_e hw
  refine zw_put hk hH hz hS er he hA hkl eh (fp_J25_7 hc) rfl rfl dJ25_init_6 (fun H locs hH hz hS => ?_)
  exact zr_vret hk hr hH hz hS hw (Nat.le_of_ble_eq_true rfl) (Nat.le_of_ble_eq_true rfl) dJ25_init_9
def wp_J26_iterator (l : Launch) (g : zG) (d : Nat) (mc ms : Nat) (h0 : Nat) (hp : zHp) (nx : Nat) (Post : Option Nat → zHp → Nat → Prop) : Prop :=
  (∃ c_1 s_2 : Nat, 0 + c_1 ≤ mc ∧ 0 + s_2 ≤ ms ∧ zo hp (some h0) [36] fun a_6 ci_7 fs_8 => zMt l g yJ25_listIterator cJ25_listIterator 1 (some (.object "java/util/ListIterator")) d c_1 s_2 (.ref a_6 :: []) hp nx (zQq g fun r_5 hp_3 nx_4 =>
  ((0 + c_1) ≤ mc ∧ (0 + s_2) ≤ ms ∧ Post r_5 hp_3 nx_4)))
set_option maxHeartbeats 40000000 in
theorem met_J26_iterator {l : Launch} {g : zG} {d : Nat} {mc ms : Nat} {h0 : Nat} {hp : zHp} {nx : Nat} {Post : Option Nat → zHp → Nat → Prop} (hw : wp_J26_iterator l g d mc ms h0 hp nx Post) : zMt l g yJ26_iterator cJ26_iterator 1 (some (.object "java/util/Iterator")) (d + 1) mc ms [.ref h0] hp nx (zQq g Post) := by
  refine z_start (by decide) (Nat.le_of_ble_eq_true rfl) ?_
  intro p e s m below meth c hk hr hin hH hz ls hl
  have hx := hk.1.1
  have hb := hk.1.2.1
  have hown := hk.1.2.2.2.1
  have hts := hk.1.2.2.2.2
  have hS : va_S (zAd g) s.heap s.heap [] := va_S.rf
  have hl : lv_has ls 1 [(0, va_rf (some h0))] := hl
  unfold wp_J26_iterator at hw
  refine zr_aload_n (r := some h0) hx hb dJ26_iterator_0 rfl (lv_at hl 0 rfl) ?_
  obtain ⟨c_1, s_2, hcl, hsl, hw⟩ := hw
  obtain ⟨a_6, ci_7, fs_8, er, he, hc, hw⟩ := zo_e hw
  obtain rfl := List.mem_singleton.mp hc
  refine zr_callq (zw_runU (As := []) hk hH hz hS hl.1 er hw (va_cwU 0 hts (z_U q969 q970 q972 q973 q171 q974) rfl rfl rfl rfl (by decide +kernel) (z_room (Nat.le_of_ble_eq_true rfl))) he rfl rfl rfl (Nat.le_of_ble_eq_true rfl) dJ26_iterator_1 ⟨hcl, hsl⟩) hS (fun r_5 hp_3 nx_4 hw H locs hH hz hS => ?_)
  obtain ⟨hkc, hks, hw⟩ := hw
  exact zr_aret (r := r_5) hk hr (Or.inl ⟨_, rfl⟩) hH hz hS hw hkc hks dJ26_iterator_4
def wp_J26_init (l : Launch) (g : zG) (d : Nat) (h0 : Nat) (hp : zHp) (nx : Nat) (Post : zHp → Nat → Prop) : Prop :=
  (zMt l g yJ25_init cJ25_init 1 none d 0 0 (.ref h0 :: []) hp nx (zQv g fun hp_1 nx_2 =>
  (Post hp_1 nx_2)))
set_option maxHeartbeats 40000000 in
theorem met_J26_init {l : Launch} {g : zG} {d : Nat} {h0 : Nat} {hp : zHp} {nx : Nat} {Post : zHp → Nat → Prop} (hw : wp_J26_init l g d h0 hp nx Post) : zMt l g yJ26_init cJ26_init 1 none (d + 1) 0 0 [.ref h0] hp nx (zQv g Post) := by
  refine z_start (by decide) (Nat.le_of_ble_eq_true rfl) ?_
  intro p e s m below meth c hk hr hin hH hz ls hl
  have hx := hk.1.1
  have hb := hk.1.2.1
  have hown := hk.1.2.2.2.1
  have hts := hk.1.2.2.2.2
  have hS : va_S (zAd g) s.heap s.heap [] := va_S.rf
  have hl : lv_has ls 1 [(0, va_rf (some h0))] := hl
  unfold wp_J26_init at hw
  refine zr_aload_n (r := some h0) hx hb dJ26_init_0 rfl (lv_at hl 0 rfl) ?_
  refine zr_callv (zw_runI (As := []) (r := some h0) hk hH hz hS hl.1 rfl hw (cwI 0 hts (lw_meth q1338) rfl rfl rfl (hts _ q171) (hts _ q1336) (hts _ q1337) rfl (by decide +kernel) (z_room (Nat.le_of_ble_eq_true rfl))) rfl rfl (Nat.le_of_ble_eq_true rfl) dJ26_init_1 ⟨Nat.le_of_ble_eq_true rfl, Nat.le_of_ble_eq_true rfl⟩) hS (fun hp_1 nx_2 hw H locs hH hz hS => ?_)
  exact zr_vret hk hr hH hz hS hw (Nat.le_of_ble_eq_true rfl) (Nat.le_of_ble_eq_true rfl) dJ26_init_4
def wp_J27_contains (l : Launch) (g : zG) (d : Nat) (h0 : Nat) (r1 : Option Nat) (hp : zHp) (nx : Nat) (Post : Int32 → zHp → Nat → Prop) : Prop :=
  (zo hp (some h0) [36] fun a_7 ci_8 fs_9 => zMt l g yJ27_indexOf cJ27_indexOf 4 (some .int) d 0 0 (.ref a_7 :: [va_rf r1]) hp nx (zQi g fun x_3 hp_1 nx_2 =>
  (∃ P_13 : Int32 → zHp → Nat → Prop, (∀ (x_4 : Int32) (hp_5 : zHp) (nx_6 : Nat), P_13 x_4 hp_5 nx_6 →
  (((x_4 = 0 ∨ x_4 = 1) ∧ Post x_4 hp_5 nx_6))) ∧
  ((x_3 < 0 →
  P_13 (0 : Int32) hp_1 nx_2) ∧
  (¬ x_3 < 0 →
  P_13 (1 : Int32) hp_1 nx_2)))))
set_option maxHeartbeats 40000000 in
theorem met_J27_contains {l : Launch} {g : zG} {d : Nat} {h0 : Nat} {r1 : Option Nat} {hp : zHp} {nx : Nat} {Post : Int32 → zHp → Nat → Prop} (hw : wp_J27_contains l g d h0 r1 hp nx Post) : zMt l g yJ27_contains cJ27_contains 2 (some .boolean) (d + 1) 0 0 [.ref h0, va_rf r1] hp nx (zQi g Post) := by
  refine z_start (by decide) (by cases r1 <;> exact Nat.le_of_ble_eq_true rfl) ?_
  intro p e s m below meth c hk hr hin hH hz ls hl
  have hx := hk.1.1
  have hb := hk.1.2.1
  have hown := hk.1.2.2.2.1
  have hts := hk.1.2.2.2.2
  have hS : va_S (zAd g) s.heap s.heap [] := va_S.rf
  have hl : lv_has ls 2 [(0, va_rf (some h0)), (1, va_rf r1)] := by cases r1 <;> exact hl
  unfold wp_J27_contains at hw
  refine zr_aload_n (r := some h0) hx hb dJ27_contains_0 rfl (lv_at hl 0 rfl) ?_
  refine zr_aload_n (r := r1) hx hb dJ27_contains_1 rfl (lv_at hl 1 rfl) ?_
  obtain ⟨a_7, ci_8, fs_9, er, he, hc, hw⟩ := zo_e hw
  obtain rfl := List.mem_singleton.mp hc
  refine zr_calli (zw_runV (As := [va_rf r1]) hk hH hz hS hl.1 er hw (cwV 1 hts (lw_V q758 q759 q760 q173 q761) rfl rfl rfl (by decide +kernel) (z_room (Nat.le_of_ble_eq_true rfl))) he rfl rfl rfl (Nat.le_of_ble_eq_true rfl) dJ27_contains_2 ⟨Nat.le_of_ble_eq_true rfl, Nat.le_of_ble_eq_true rfl⟩) hS (fun x_3 hp_1 nx_2 hw H locs hH hz hS => ?_)
  obtain ⟨P_13, hP_13, hw⟩ := hw
  have hJ_13 : ∀ (x_4 : Int32) (hp_5 : zHp) (nx_6 : Nat) (H : Heap) (locs : List Loc) (ls : Array Slot), P_13 x_4 hp_5 nx_6 → lv_has ls 2 [(0, va_rf (some h0)), (1, va_rf r1)] → zHd g hp_5 H → H.size = nx_6 → va_S (zAd g) s.heap H locs → W p l e (zrm (d + 1) 0 0) s m ([.ref h0, va_rf r1] : List Value).toArray below meth c H locs 0 0 (MQ below (zQi g Post) ([.ref h0, va_rf r1] : List Value).toArray s 0 0 (zAd g)) (F0 m 13 ls [.int x_4]) := by
    intro x_4 hp_5 nx_6 H locs ls hw hl hH hz hS
    have hw := hP_13 x_4 hp_5 nx_6 hw
    exact zr_zret hk hr hH hz hS hw.1 hw.2 (Nat.le_of_ble_eq_true rfl) (Nat.le_of_ble_eq_true rfl) dJ27_contains_13
  refine lv_if_lt (tgt := 12) hx hb dJ27_contains_5 (by decide) (fun hc => ?_) (fun hc => ?_)
  · have hw := hw.1 hc
    refine lv_iconst (v := (0 : Int32)) hx hb dJ27_contains_12 (by decide) ?_
    exact hJ_13 (0 : Int32) hp_1 nx_2 _ _ _ hw hl hH hz hS
  · have hw := hw.2 hc
    refine lv_iconst (v := (1 : Int32)) hx hb dJ27_contains_8 (by decide) ?_
    refine lv_goto (tgt := 13) hx hb dJ27_contains_9 (by decide) ?_
    exact hJ_13 (1 : Int32) hp_1 nx_2 _ _ _ hw hl hH hz hS
theorem no_J27_150 : zNo "java/util/LinkedList" 150 38 := ⟨RJ21, TJ21, 5, rfl, q1003, q1004, q159⟩
def wp_J27_listIterator (l : Launch) (g : zG) (d : Nat) (mc ms : Nat) (h0 : Nat) (x1 : Int32) (hp : zHp) (nx : Nat) (Post : Option Nat → zHp → Nat → Prop) : Prop :=
  (0 ≤ mc ∧ 0 ≤ ms ∧ zo hp (some h0) [36] fun a_12 ci_13 fs_14 => zMt l g yJ27_checkPositionIndex cJ27_checkPositionIndex 2 none d 0 0 (.ref a_12 :: [.int x1]) hp nx (zQv g fun hp_1 nx_2 =>
  (znw g mc ms hp_1 nx_2 0 0 38 fun hp_3 =>
  ∀ nx_4 kc_5 ks_6 : Nat, nx_4 = (nx_2 + 1) → kc_5 = (0 + 1) → ks_6 = (0 + zNn 38) →
  (kc_5 ≤ mc ∧ ks_6 ≤ ms ∧ zMt l g yJ21_init cJ21_init 3 none d 0 0 (.ref nx_2 :: [va_rf (some h0), .int x1]) hp_3 nx_4 (zQv g fun hp_7 nx_8 =>
  (kc_5 ≤ mc ∧ ks_6 ≤ ms ∧ Post (some nx_2) hp_7 nx_8))))))
set_option maxHeartbeats 40000000 in
theorem met_J27_listIterator {l : Launch} {g : zG} {d : Nat} {mc ms : Nat} {h0 : Nat} {x1 : Int32} {hp : zHp} {nx : Nat} {Post : Option Nat → zHp → Nat → Prop} (hw : wp_J27_listIterator l g d mc ms h0 x1 hp nx Post) : zMt l g yJ27_listIterator cJ27_listIterator 2 (some (.object "java/util/ListIterator")) (d + 1) mc ms [.ref h0, .int x1] hp nx (zQq g Post) := by
  refine z_start (by decide) (Nat.le_of_ble_eq_true rfl) ?_
  intro p e s m below meth c hk hr hin hH hz ls hl
  have hx := hk.1.1
  have hb := hk.1.2.1
  have hown := hk.1.2.2.2.1
  have hts := hk.1.2.2.2.2
  have hS : va_S (zAd g) s.heap s.heap [] := va_S.rf
  have hl : lv_has ls 2 [(0, va_rf (some h0)), (1, .int x1)] := hl
  unfold wp_J27_listIterator at hw
  refine zr_aload_n (r := some h0) hx hb dJ27_listIterator_0 rfl (lv_at hl 0 rfl) ?_
  refine lv_iload_n hx hb dJ27_listIterator_1 rfl (lv_at hl 1 rfl) ?_
  obtain ⟨hcl, hsl, hw⟩ := hw
  obtain ⟨a_12, ci_13, fs_14, er, he, hc, hw⟩ := zo_e hw
  obtain rfl := List.mem_singleton.mp hc
  refine zr_callv (zw_runV (As := [.int x1]) hk hH hz hS hl.1 er hw (cwV 1 hts (lw_V q981 q983 qs13 q173 q985) rfl rfl rfl (by decide +kernel) (z_room (Nat.le_of_ble_eq_true rfl))) he rfl rfl rfl (Nat.le_of_ble_eq_true rfl) dJ27_listIterator_2 ⟨hcl, hsl⟩) hS (fun hp_1 nx_2 hw H locs hH hz hS => ?_)
  obtain ⟨hcl, hsl, hw⟩ := hw
  refine zx_new hk hH hz hS (ci := 38) no_J27_150 hcl hsl dJ27_listIterator_5 (fun H hH hz hS hlt hnb => ?_)
  have hw := hw hlt hnb
  generalize va_up hp_1 nx_2 _ = hp_3 at hH hw
  obtain ⟨kc_5, ekc⟩ : ∃ k, k = (0 + 1) := ⟨_, rfl⟩
  obtain ⟨ks_6, eks⟩ : ∃ k, k = (0 + zNn 38) := ⟨_, rfl⟩
  have hw := hw _ _ _ rfl ekc eks
  refine W.widen (Nat.le_of_eq ekc.symm) (Nat.le_of_eq eks.symm) ?_
  clear ekc eks
  generalize (nx_2 + 1) = nx_4 at hz hw
  refine lv_dup hx hb dJ27_listIterator_8 (z_cat _) ?_
  refine zr_aload_n (r := some h0) hx hb dJ27_listIterator_9 rfl (lv_at hl 0 rfl) ?_
  refine lv_iload_n hx hb dJ27_listIterator_10 rfl (lv_at hl 1 rfl) ?_
  obtain ⟨hcl, hsl, hw⟩ := hw
  refine zr_callv (zw_runI (As := [va_rf (some h0), .int x1]) (r := some nx_2) hk hH hz hS hl.1 rfl hw (cwI 2 hts (lw_meth q1007) rfl rfl rfl (hts _ q159) (hts _ q1005) (hts _ q1006) rfl (by decide +kernel) (z_room (Nat.le_of_ble_eq_true rfl))) rfl rfl (by simp only [List.map_cons, List.map_nil, z_cat]; exact Nat.le_of_ble_eq_true rfl) dJ27_listIterator_11 ⟨hcl, hsl⟩) hS (fun hp_7 nx_8 hw H locs hH hz hS => ?_)
  obtain ⟨hkc, hks, hw⟩ := hw
  exact zr_aret (r := some nx_2) hk hr (Or.inl ⟨_, rfl⟩) hH hz hS hw hkc hks dJ27_listIterator_14
def wp_J27_checkPositionIndex (l : Launch) (g : zG) (d : Nat) (h0 : Nat) (x1 : Int32) (hp : zHp) (nx : Nat) (Post : zHp → Nat → Prop) : Prop :=
  (zo hp (some h0) [36] fun a_4 ci_5 fs_6 => zMt l g yJ27_isPositionIndex cJ27_isPositionIndex 2 (some .boolean) d 0 0 (.ref a_4 :: [.int x1]) hp nx (zQi g fun x_3 hp_1 nx_2 =>
  ((x_3 = 0 →
  False) ∧
  (¬ x_3 = 0 →
  (Post hp_1 nx_2)))))
set_option maxHeartbeats 40000000 in
theorem met_J27_checkPositionIndex {l : Launch} {g : zG} {d : Nat} {h0 : Nat} {x1 : Int32} {hp : zHp} {nx : Nat} {Post : zHp → Nat → Prop} (hw : wp_J27_checkPositionIndex l g d h0 x1 hp nx Post) : zMt l g yJ27_checkPositionIndex cJ27_checkPositionIndex 2 none (d + 1) 0 0 [.ref h0, .int x1] hp nx (zQv g Post) := by
  refine z_start (by decide) (Nat.le_of_ble_eq_true rfl) ?_
  intro p e s m below meth c hk hr hin hH hz ls hl
  have hx := hk.1.1
  have hb := hk.1.2.1
  have hown := hk.1.2.2.2.1
  have hts := hk.1.2.2.2.2
  have hS : va_S (zAd g) s.heap s.heap [] := va_S.rf
  have hl : lv_has ls 2 [(0, va_rf (some h0)), (1, .int x1)] := hl
  unfold wp_J27_checkPositionIndex at hw
  refine zr_aload_n (r := some h0) hx hb dJ27_checkPositionIndex_0 rfl (lv_at hl 0 rfl) ?_
  refine lv_iload_n hx hb dJ27_checkPositionIndex_1 rfl (lv_at hl 1 rfl) ?_
  obtain ⟨a_4, ci_5, fs_6, er, he, hc, hw⟩ := zo_e hw
  obtain rfl := List.mem_singleton.mp hc
  refine zr_calli (zw_runV (As := [.int x1]) hk hH hz hS hl.1 er hw (cwV 1 hts (lw_V q986 q988 qs14 q173 q989) rfl rfl rfl (by decide +kernel) (z_room (Nat.le_of_ble_eq_true rfl))) he rfl rfl rfl (Nat.le_of_ble_eq_true rfl) dJ27_checkPositionIndex_2 ⟨Nat.le_of_ble_eq_true rfl, Nat.le_of_ble_eq_true rfl⟩) hS (fun x_3 hp_1 nx_2 hw H locs hH hz hS => ?_)
  refine lv_if_ne (tgt := 21) hx hb dJ27_checkPositionIndex_5 (by decide) (fun hc => ?_) (fun hc => ?_)
  · have hw := hw.2 hc
    exact zr_vret hk hr hH hz hS hw (Nat.le_of_ble_eq_true rfl) (Nat.le_of_ble_eq_true rfl) dJ27_checkPositionIndex_21
  · have hw := hw.1 hc
    exact hw.elim
theorem fk_J27_7 {ci : Nat} (h : ci ∈ [36]) : zFk "java/util/LinkedList" 7 ci 1 := by
  simp only [List.mem_cons, List.not_mem_nil, or_false] at h
  rcases h with rfl
  · exact ⟨RJ27, TJ27, 4, rfl, by decide, q1340⟩
def wp_J27_isPositionIndex (l : Launch) (g : zG) (d : Nat) (h0 : Nat) (x1 : Int32) (hp : zHp) (nx : Nat) (Post : Int32 → zHp → Nat → Prop) : Prop :=
  (∃ P_17 : Int32 → Prop, (∀ (x_1 : Int32), P_17 x_1 →
  (((x_1 = 0 ∨ x_1 = 1) ∧ Post x_1 hp nx))) ∧
  (∃ P_16 : Prop, (P_16 →
  P_17 (0 : Int32)) ∧
  ((x1 < 0 →
  P_16) ∧
  (¬ x1 < 0 →
  (zgI hp (some h0) [36] 1 fun x_5 =>
  ((x_5 < x1 →
  P_16) ∧
  (¬ x_5 < x1 →
  P_17 (1 : Int32))))))))
set_option maxHeartbeats 40000000 in
theorem met_J27_isPositionIndex {l : Launch} {g : zG} {d : Nat} {h0 : Nat} {x1 : Int32} {hp : zHp} {nx : Nat} {Post : Int32 → zHp → Nat → Prop} (hw : wp_J27_isPositionIndex l g d h0 x1 hp nx Post) : zMt l g yJ27_isPositionIndex cJ27_isPositionIndex 2 (some .boolean) (d + 1) 0 0 [.ref h0, .int x1] hp nx (zQi g Post) := by
  refine z_start (by decide) (Nat.le_of_ble_eq_true rfl) ?_
  intro p e s m below meth c hk hr hin hH hz ls hl
  have hx := hk.1.1
  have hb := hk.1.2.1
  have hown := hk.1.2.2.2.1
  have hts := hk.1.2.2.2.2
  have hS : va_S (zAd g) s.heap s.heap [] := va_S.rf
  have hl : lv_has ls 2 [(0, va_rf (some h0)), (1, .int x1)] := hl
  unfold wp_J27_isPositionIndex at hw
  refine lv_iload_n hx hb dJ27_isPositionIndex_0 rfl (lv_at hl 1 rfl) ?_
  obtain ⟨P_17, hP_17, hw⟩ := hw
  have hJ_17 : ∀ (x_1 : Int32) (H : Heap) (locs : List Loc) (ls : Array Slot), P_17 x_1 → lv_has ls 2 [(0, va_rf (some h0)), (1, .int x1)] → zHd g hp H → H.size = nx → va_S (zAd g) s.heap H locs → W p l e (zrm (d + 1) 0 0) s m ([.ref h0, .int x1] : List Value).toArray below meth c H locs 0 0 (MQ below (zQi g Post) ([.ref h0, .int x1] : List Value).toArray s 0 0 (zAd g)) (F0 m 17 ls [.int x_1]) := by
    intro x_1 H locs ls hw hl hH hz hS
    have hw := hP_17 x_1 hw
    exact zr_zret hk hr hH hz hS hw.1 hw.2 (Nat.le_of_ble_eq_true rfl) (Nat.le_of_ble_eq_true rfl) dJ27_isPositionIndex_17
  obtain ⟨P_16, hP_16, hw⟩ := hw
  have hJ_16 : ∀  (H : Heap) (locs : List Loc) (ls : Array Slot), P_16  → lv_has ls 2 [(0, va_rf (some h0)), (1, .int x1)] → zHd g hp H → H.size = nx → va_S (zAd g) s.heap H locs → W p l e (zrm (d + 1) 0 0) s m ([.ref h0, .int x1] : List Value).toArray below meth c H locs 0 0 (MQ below (zQi g Post) ([.ref h0, .int x1] : List Value).toArray s 0 0 (zAd g)) (F0 m 16 ls []) := by
    intro  H locs ls hw hl hH hz hS
    have hw := hP_16  hw
    refine lv_iconst (v := (0 : Int32)) hx hb dJ27_isPositionIndex_16 (by decide) ?_
    exact hJ_17 (0 : Int32) _ _ _ hw hl hH hz hS
  refine lv_if_lt (tgt := 16) hx hb dJ27_isPositionIndex_1 (by decide) (fun hc => ?_) (fun hc => ?_)
  · have hw := hw.1 hc
    exact hJ_16  _ _ _ hw hl hH hz hS
  · have hw := hw.2 hc
    refine lv_iload_n hx hb dJ27_isPositionIndex_4 rfl (lv_at hl 1 rfl) ?_
    refine zr_aload_n (r := some h0) hx hb dJ27_isPositionIndex_5 rfl (lv_at hl 0 rfl) ?_
    obtain ⟨a_2, ci_3, fs_4, x_5, er, he, hc, hv, hw⟩ := zgI_e hw
    refine zw_get hk hH er he hv (fk_J27_7 hc) dJ27_isPositionIndex_6 ?_
    refine lv_icmp_gt (tgt := 16) hx hb dJ27_isPositionIndex_9 (by decide) (fun hc => ?_) (fun hc => ?_)
    · have hw := hw.1 hc
      exact hJ_16  _ _ _ hw hl hH hz hS
    · have hw := hw.2 hc
      refine lv_iconst (v := (1 : Int32)) hx hb dJ27_isPositionIndex_12 (by decide) ?_
      refine lv_goto (tgt := 17) hx hb dJ27_isPositionIndex_13 (by decide) ?_
      exact hJ_17 (1 : Int32) _ _ _ hw hl hH hz hS
theorem fk_J27_27 {ci : Nat} (h : ci ∈ [36]) : zFk "java/util/LinkedList" 27 ci 3 := by
  simp only [List.mem_cons, List.not_mem_nil, or_false] at h
  rcases h with rfl
  · exact ⟨RJ27, TJ27, 4, rfl, by decide, q1343⟩
theorem fk_J27_30 {ci : Nat} (h : ci ∈ [37]) : zFk "java/util/LinkedList" 30 ci 2 := by
  simp only [List.mem_cons, List.not_mem_nil, or_false] at h
  rcases h with rfl
  · exact ⟨RJ29, TJ29, 3, rfl, by decide, q1669⟩
theorem fk_J27_18 {ci : Nat} (h : ci ∈ [36]) : zFk "java/util/LinkedList" 18 ci 2 := by
  simp only [List.mem_cons, List.not_mem_nil, or_false] at h
  rcases h with rfl
  · exact ⟨RJ27, TJ27, 4, rfl, by decide, q1342⟩
theorem fk_J27_36 {ci : Nat} (h : ci ∈ [37]) : zFk "java/util/LinkedList" 36 ci 1 := by
  simp only [List.mem_cons, List.not_mem_nil, or_false] at h
  rcases h with rfl
  · exact ⟨RJ29, TJ29, 3, rfl, by decide, q1667⟩
def wp_J27_node (l : Launch) (g : zG) (d : Nat) (h0 : Nat) (x1 : Int32) (hp : zHp) (nx : Nat) (Post : Option Nat → zHp → Nat → Prop) : Prop :=
  (zgI hp (some h0) [36] 1 fun x_4 =>
  (((x_4 >>> ((1 : Int32) &&& 31)) ≤ x1 →
  (zgR hp (some h0) [36] 3 fun r_8 =>
  (zgI hp (some h0) [36] 1 fun x_12 =>
  (∀ x_13 : Int32, x_13 = x_12 - (1 : Int32) →
  (∃ I_47 : Nat → (Option Nat) → Int32 → Prop, (∃ n_23, I_47 n_23 r_8 x_13) ∧ ∀ (n_16 : Nat) (r_14 : Option Nat) (x_15 : Int32), I_47 n_16 r_14 x_15 →
  ((x_15 ≤ x1 →
  (Post r_14 hp nx)) ∧
  (¬ x_15 ≤ x1 →
  (zgR hp r_14 [37] 2 fun r_20 =>
  (∀ x_21 : Int32, x_21 = x_15 + (-1 : Int32) →
  (∃ k_22, k_22 < n_16 ∧ I_47 k_22 r_20 x_21)))))))))) ∧
  (¬ (x_4 >>> ((1 : Int32) &&& 31)) ≤ x1 →
  (zgR hp (some h0) [36] 2 fun r_27 =>
  (∃ I_17 : Nat → (Option Nat) → Int32 → Prop, (∃ n_37, I_17 n_37 r_27 (0 : Int32)) ∧ ∀ (n_30 : Nat) (r_28 : Option Nat) (x_29 : Int32), I_17 n_30 r_28 x_29 →
  ((x1 ≤ x_29 →
  (Post r_28 hp nx)) ∧
  (¬ x1 ≤ x_29 →
  (zgR hp r_28 [37] 1 fun r_34 =>
  (∀ x_35 : Int32, x_35 = x_29 + (1 : Int32) →
  (∃ k_36, k_36 < n_30 ∧ I_17 k_36 r_34 x_35))))))))))
set_option maxHeartbeats 40000000 in
theorem met_J27_node {l : Launch} {g : zG} {d : Nat} {h0 : Nat} {x1 : Int32} {hp : zHp} {nx : Nat} {Post : Option Nat → zHp → Nat → Prop} (hw : wp_J27_node l g d h0 x1 hp nx Post) : zMt l g yJ27_node cJ27_node 4 (some (.object "java/util/LinkedList$Node")) (d + 1) 0 0 [.ref h0, .int x1] hp nx (zQq g Post) := by
  refine z_start (by decide) (Nat.le_of_ble_eq_true rfl) ?_
  intro p e s m below meth c hk hr hin hH hz ls hl
  have hx := hk.1.1
  have hb := hk.1.2.1
  have hown := hk.1.2.2.2.1
  have hts := hk.1.2.2.2.2
  have hS : va_S (zAd g) s.heap s.heap [] := va_S.rf
  have hl : lv_has ls 4 [(0, va_rf (some h0)), (1, .int x1)] := hl
  unfold wp_J27_node at hw
  refine lv_iload_n hx hb dJ27_node_0 rfl (lv_at hl 1 rfl) ?_
  refine zr_aload_n (r := some h0) hx hb dJ27_node_1 rfl (lv_at hl 0 rfl) ?_
  obtain ⟨a_1, ci_2, fs_3, x_4, er, he, hc, hv, hw⟩ := zgI_e hw
  refine zw_get hk hH er he hv (fk_J27_7 hc) dJ27_node_2 ?_
  refine lv_iconst (v := (1 : Int32)) hx hb dJ27_node_5 (by decide) ?_
  refine lv_ishr hx hb dJ27_node_6 ?_
  refine lv_icmp_ge (tgt := 35) hx hb dJ27_node_7 (by decide) (fun hc => ?_) (fun hc => ?_)
  · have hw := hw.1 hc
    refine zr_aload_n (r := some h0) hx hb dJ27_node_35 rfl (lv_at hl 0 rfl) ?_
    obtain ⟨a_5, ci_6, fs_7, r_8, er, he, hc, hv, hw⟩ := zgR_e hw
    refine zw_get hk hH er he hv (fk_J27_27 hc) dJ27_node_36 ?_
    refine zr_astore_n (r := r_8) (i := 2) (lv' := [(2, va_rf r_8), (0, va_rf (some h0)), (1, .int x1)]) hx hb dJ27_node_39 rfl hl (by decide) (by first | rfl | simp [List.filter_cons, z_cat, z_catI, z_catJ, z_catF, z_catD]) (fun ls hl => ?_)
    refine zr_aload_n (r := some h0) hx hb dJ27_node_40 rfl (lv_at hl 1 rfl) ?_
    obtain ⟨a_9, ci_10, fs_11, x_12, er, he, hc, hv, hw⟩ := zgI_e hw
    refine zw_get hk hH er he hv (fk_J27_7 hc) dJ27_node_41 ?_
    refine lv_iconst (v := (1 : Int32)) hx hb dJ27_node_44 (by decide) ?_
    refine lv_isub hx hb dJ27_node_45 ?_
    refine lv_topi (fun x_13 ex_13 => ?_)
    have hw := hw x_13 ex_13
    refine lv_istore_n (i := 3) (lv' := [(3, .int x_13), (2, va_rf r_8), (0, va_rf (some h0)), (1, .int x1)]) hx hb dJ27_node_46 rfl hl (by decide) (by first | rfl | simp [List.filter_cons, z_cat, z_catI, z_catJ, z_catF, z_catD]) (fun ls hl => ?_)
    obtain ⟨I_47, ⟨n_23, hI⟩, hB_47⟩ := hw
    have hL_47 : ∀ (n_16 : Nat) (r_14 : Option Nat) (x_15 : Int32) (H : Heap) (locs : List Loc) (ls : Array Slot), I_47 n_16 r_14 x_15 → lv_has ls 4 [(0, va_rf (some h0)), (1, .int x1), (2, va_rf r_14), (3, .int x_15)] → zHd g hp H → H.size = nx → va_S (zAd g) s.heap H locs → W p l e (zrm (d + 1) 0 0) s m ([.ref h0, .int x1] : List Value).toArray below meth c H locs 0 0 (MQ below (zQq g Post) ([.ref h0, .int x1] : List Value).toArray s 0 0 (zAd g)) (F0 m 47 ls []) := by
      intro n_16
      induction n_16 using Nat.strongRecOn with
      | _ n_16 ih_47 =>
        intro r_14 x_15 H locs ls hw hl hH hz hS
        have hw := hB_47 n_16 r_14 x_15 hw
        refine lv_iload_n hx hb dJ27_node_47 rfl (lv_at hl 3 rfl) ?_
        refine lv_iload_n hx hb dJ27_node_48 rfl (lv_at hl 1 rfl) ?_
        refine lv_icmp_le (tgt := 63) hx hb dJ27_node_49 (by decide) (fun hc => ?_) (fun hc => ?_)
        · have hw := hw.1 hc
          refine zr_aload_n (r := r_14) hx hb dJ27_node_63 rfl (lv_at hl 2 rfl) ?_
          exact zr_aret (r := r_14) hk hr (Or.inl ⟨_, rfl⟩) hH hz hS hw (Nat.le_of_ble_eq_true rfl) (Nat.le_of_ble_eq_true rfl) dJ27_node_64
        · have hw := hw.2 hc
          refine zr_aload_n (r := r_14) hx hb dJ27_node_52 rfl (lv_at hl 2 rfl) ?_
          obtain ⟨a_17, ci_18, fs_19, r_20, er, he, hc, hv, hw⟩ := zgR_e hw
          refine zw_get hk hH er he hv (fk_J27_30 hc) dJ27_node_53 ?_
          refine zr_astore_n (r := r_20) (i := 2) (lv' := [(2, va_rf r_20), (0, va_rf (some h0)), (1, .int x1), (3, .int x_15)]) hx hb dJ27_node_56 rfl hl (by decide) (by first | rfl | simp [List.filter_cons, z_cat, z_catI, z_catJ, z_catF, z_catD]) (fun ls hl => ?_)
          obtain ⟨x_21, ex_21⟩ : ∃ y : Int32, y = x_15 + (-1 : Int32) := ⟨_, rfl⟩
          have hw := hw x_21 ex_21
          refine lv_iinc (v := x_21) (lv' := [(3, .int x_21), (2, va_rf r_20), (0, va_rf (some h0)), (1, .int x1)]) hx hb dJ27_node_57 hl (k := 3) rfl (by rw [ex_21]; rfl) (by decide) (by first | rfl | simp [List.filter_cons, z_cat, z_catI, z_catJ, z_catF, z_catD]) (fun ls hl => ?_)
          refine lv_goto (tgt := 47) hx hb dJ27_node_60 (by decide) ?_
          obtain ⟨k_22, hlt, hw⟩ := hw
          exact ih_47 k_22 hlt r_20 x_21 _ _ _ hw (lv_sub hl [2, 3, 1, 0] rfl) hH hz hS
    exact hL_47 n_23 r_8 x_13 _ _ _ hI (lv_sub hl [2, 3, 1, 0] rfl) hH hz hS
  · have hw := hw.2 hc
    refine zr_aload_n (r := some h0) hx hb dJ27_node_10 rfl (lv_at hl 0 rfl) ?_
    obtain ⟨a_24, ci_25, fs_26, r_27, er, he, hc, hv, hw⟩ := zgR_e hw
    refine zw_get hk hH er he hv (fk_J27_18 hc) dJ27_node_11 ?_
    refine zr_astore_n (r := r_27) (i := 2) (lv' := [(2, va_rf r_27), (0, va_rf (some h0)), (1, .int x1)]) hx hb dJ27_node_14 rfl hl (by decide) (by first | rfl | simp [List.filter_cons, z_cat, z_catI, z_catJ, z_catF, z_catD]) (fun ls hl => ?_)
    refine lv_iconst (v := (0 : Int32)) hx hb dJ27_node_15 (by decide) ?_
    refine lv_istore_n (i := 3) (lv' := [(3, .int (0 : Int32)), (2, va_rf r_27), (0, va_rf (some h0)), (1, .int x1)]) hx hb dJ27_node_16 rfl hl (by decide) (by first | rfl | simp [List.filter_cons, z_cat, z_catI, z_catJ, z_catF, z_catD]) (fun ls hl => ?_)
    obtain ⟨I_17, ⟨n_37, hI⟩, hB_17⟩ := hw
    have hL_17 : ∀ (n_30 : Nat) (r_28 : Option Nat) (x_29 : Int32) (H : Heap) (locs : List Loc) (ls : Array Slot), I_17 n_30 r_28 x_29 → lv_has ls 4 [(0, va_rf (some h0)), (1, .int x1), (2, va_rf r_28), (3, .int x_29)] → zHd g hp H → H.size = nx → va_S (zAd g) s.heap H locs → W p l e (zrm (d + 1) 0 0) s m ([.ref h0, .int x1] : List Value).toArray below meth c H locs 0 0 (MQ below (zQq g Post) ([.ref h0, .int x1] : List Value).toArray s 0 0 (zAd g)) (F0 m 17 ls []) := by
      intro n_30
      induction n_30 using Nat.strongRecOn with
      | _ n_30 ih_17 =>
        intro r_28 x_29 H locs ls hw hl hH hz hS
        have hw := hB_17 n_30 r_28 x_29 hw
        refine lv_iload_n hx hb dJ27_node_17 rfl (lv_at hl 3 rfl) ?_
        refine lv_iload_n hx hb dJ27_node_18 rfl (lv_at hl 1 rfl) ?_
        refine lv_icmp_ge (tgt := 33) hx hb dJ27_node_19 (by decide) (fun hc => ?_) (fun hc => ?_)
        · have hw := hw.1 hc
          refine zr_aload_n (r := r_28) hx hb dJ27_node_33 rfl (lv_at hl 2 rfl) ?_
          exact zr_aret (r := r_28) hk hr (Or.inl ⟨_, rfl⟩) hH hz hS hw (Nat.le_of_ble_eq_true rfl) (Nat.le_of_ble_eq_true rfl) dJ27_node_34
        · have hw := hw.2 hc
          refine zr_aload_n (r := r_28) hx hb dJ27_node_22 rfl (lv_at hl 2 rfl) ?_
          obtain ⟨a_31, ci_32, fs_33, r_34, er, he, hc, hv, hw⟩ := zgR_e hw
          refine zw_get hk hH er he hv (fk_J27_36 hc) dJ27_node_23 ?_
          refine zr_astore_n (r := r_34) (i := 2) (lv' := [(2, va_rf r_34), (0, va_rf (some h0)), (1, .int x1), (3, .int x_29)]) hx hb dJ27_node_26 rfl hl (by decide) (by first | rfl | simp [List.filter_cons, z_cat, z_catI, z_catJ, z_catF, z_catD]) (fun ls hl => ?_)
          obtain ⟨x_35, ex_35⟩ : ∃ y : Int32, y = x_29 + (1 : Int32) := ⟨_, rfl⟩
          have hw := hw x_35 ex_35
          refine lv_iinc (v := x_35) (lv' := [(3, .int x_35), (2, va_rf r_34), (0, va_rf (some h0)), (1, .int x1)]) hx hb dJ27_node_27 hl (k := 3) rfl (by rw [ex_35]; rfl) (by decide) (by first | rfl | simp [List.filter_cons, z_cat, z_catI, z_catJ, z_catF, z_catD]) (fun ls hl => ?_)
          refine lv_goto (tgt := 17) hx hb dJ27_node_30 (by decide) ?_
          obtain ⟨k_36, hlt, hw⟩ := hw
          exact ih_17 k_36 hlt r_34 x_35 _ _ _ hw (lv_sub hl [2, 3, 1, 0] rfl) hH hz hS
    exact hL_17 n_37 r_27 (0 : Int32) _ _ _ hI (lv_sub hl [2, 3, 1, 0] rfl) hH hz hS
def wp_J27_size (l : Launch) (g : zG) (d : Nat) (h0 : Nat) (hp : zHp) (nx : Nat) (Post : Int32 → zHp → Nat → Prop) : Prop :=
  (zgI hp (some h0) [36] 1 fun x_4 =>
  (Post x_4 hp nx))
set_option maxHeartbeats 40000000 in
theorem met_J27_size {l : Launch} {g : zG} {d : Nat} {h0 : Nat} {hp : zHp} {nx : Nat} {Post : Int32 → zHp → Nat → Prop} (hw : wp_J27_size l g d h0 hp nx Post) : zMt l g yJ27_size cJ27_size 1 (some .int) (d + 1) 0 0 [.ref h0] hp nx (zQi g Post) := by
  refine z_start (by decide) (Nat.le_of_ble_eq_true rfl) ?_
  intro p e s m below meth c hk hr hin hH hz ls hl
  have hx := hk.1.1
  have hb := hk.1.2.1
  have hown := hk.1.2.2.2.1
  have hts := hk.1.2.2.2.2
  have hS : va_S (zAd g) s.heap s.heap [] := va_S.rf
  have hl : lv_has ls 1 [(0, va_rf (some h0))] := hl
  unfold wp_J27_size at hw
  refine zr_aload_n (r := some h0) hx hb dJ27_size_0 rfl (lv_at hl 0 rfl) ?_
  obtain ⟨a_1, ci_2, fs_3, x_4, er, he, hc, hv, hw⟩ := zgI_e hw
  refine zw_get hk hH er he hv (fk_J27_7 hc) dJ27_size_1 ?_
  exact zr_iret hk hr hH hz hS hw (Nat.le_of_ble_eq_true rfl) (Nat.le_of_ble_eq_true rfl) dJ27_size_4
theorem fk_J27_39 {ci : Nat} (h : ci ∈ [37]) : zFk "java/util/LinkedList" 39 ci 0 := by
  simp only [List.mem_cons, List.not_mem_nil, or_false] at h
  rcases h with rfl
  · exact ⟨RJ29, TJ29, 3, rfl, by decide, q1664⟩
def wp_J27_get (l : Launch) (g : zG) (d : Nat) (h0 : Nat) (x1 : Int32) (hp : zHp) (nx : Nat) (Post : Option Nat → zHp → Nat → Prop) : Prop :=
  (zo hp (some h0) [36] fun a_13 ci_14 fs_15 => zMt l g yJ27_checkElementIndex cJ27_checkElementIndex 2 none d 0 0 (.ref a_13 :: [.int x1]) hp nx (zQv g fun hp_1 nx_2 =>
  (zo hp_1 (some h0) [36] fun a_10 ci_11 fs_12 => zMt l g yJ27_node cJ27_node 4 (some (.object "java/util/LinkedList$Node")) d 0 0 (.ref a_10 :: [.int x1]) hp_1 nx_2 (zQq g fun r_5 hp_3 nx_4 =>
  (zgR hp_3 r_5 [37] 0 fun r_9 =>
  (Post r_9 hp_3 nx_4))))))
set_option maxHeartbeats 40000000 in
theorem met_J27_get {l : Launch} {g : zG} {d : Nat} {h0 : Nat} {x1 : Int32} {hp : zHp} {nx : Nat} {Post : Option Nat → zHp → Nat → Prop} (hw : wp_J27_get l g d h0 x1 hp nx Post) : zMt l g yJ27_get cJ27_get 2 (some (.object "java/lang/Object")) (d + 1) 0 0 [.ref h0, .int x1] hp nx (zQq g Post) := by
  refine z_start (by decide) (Nat.le_of_ble_eq_true rfl) ?_
  intro p e s m below meth c hk hr hin hH hz ls hl
  have hx := hk.1.1
  have hb := hk.1.2.1
  have hown := hk.1.2.2.2.1
  have hts := hk.1.2.2.2.2
  have hS : va_S (zAd g) s.heap s.heap [] := va_S.rf
  have hl : lv_has ls 2 [(0, va_rf (some h0)), (1, .int x1)] := hl
  unfold wp_J27_get at hw
  refine zr_aload_n (r := some h0) hx hb dJ27_get_0 rfl (lv_at hl 0 rfl) ?_
  refine lv_iload_n hx hb dJ27_get_1 rfl (lv_at hl 1 rfl) ?_
  obtain ⟨a_13, ci_14, fs_15, er, he, hc, hw⟩ := zo_e hw
  obtain rfl := List.mem_singleton.mp hc
  refine zr_callv (zw_runV (As := [.int x1]) hk hH hz hS hl.1 er hw (cwV 1 hts (lw_V q1072 q1074 qs16 q173 q1075) rfl rfl rfl (by decide +kernel) (z_room (Nat.le_of_ble_eq_true rfl))) he rfl rfl rfl (Nat.le_of_ble_eq_true rfl) dJ27_get_2 ⟨Nat.le_of_ble_eq_true rfl, Nat.le_of_ble_eq_true rfl⟩) hS (fun hp_1 nx_2 hw H locs hH hz hS => ?_)
  refine zr_aload_n (r := some h0) hx hb dJ27_get_5 rfl (lv_at hl 0 rfl) ?_
  refine lv_iload_n hx hb dJ27_get_6 rfl (lv_at hl 1 rfl) ?_
  obtain ⟨a_10, ci_11, fs_12, er, he, hc, hw⟩ := zo_e hw
  obtain rfl := List.mem_singleton.mp hc
  refine zr_callq (zw_runV (As := [.int x1]) hk hH hz hS hl.1 er hw (cwV 1 hts (lw_V q1080 q1010 q1011 q173 q1012) rfl rfl rfl (by decide +kernel) (z_room (Nat.le_of_ble_eq_true rfl))) he rfl rfl rfl (Nat.le_of_ble_eq_true rfl) dJ27_get_7 ⟨Nat.le_of_ble_eq_true rfl, Nat.le_of_ble_eq_true rfl⟩) hS (fun r_5 hp_3 nx_4 hw H locs hH hz hS => ?_)
  obtain ⟨a_6, ci_7, fs_8, r_9, er, he, hc, hv, hw⟩ := zgR_e hw
  refine zw_get hk hH er he hv (fk_J27_39 hc) dJ27_get_10 ?_
  exact zr_aret (r := r_9) hk hr (Or.inl ⟨_, rfl⟩) hH hz hS hw (Nat.le_of_ble_eq_true rfl) (Nat.le_of_ble_eq_true rfl) dJ27_get_13
def wp_J27_checkElementIndex (l : Launch) (g : zG) (d : Nat) (h0 : Nat) (x1 : Int32) (hp : zHp) (nx : Nat) (Post : zHp → Nat → Prop) : Prop :=
  (zo hp (some h0) [36] fun a_4 ci_5 fs_6 => zMt l g yJ27_isElementIndex cJ27_isElementIndex 2 (some .boolean) d 0 0 (.ref a_4 :: [.int x1]) hp nx (zQi g fun x_3 hp_1 nx_2 =>
  ((x_3 = 0 →
  False) ∧
  (¬ x_3 = 0 →
  (Post hp_1 nx_2)))))
set_option maxHeartbeats 40000000 in
theorem met_J27_checkElementIndex {l : Launch} {g : zG} {d : Nat} {h0 : Nat} {x1 : Int32} {hp : zHp} {nx : Nat} {Post : zHp → Nat → Prop} (hw : wp_J27_checkElementIndex l g d h0 x1 hp nx Post) : zMt l g yJ27_checkElementIndex cJ27_checkElementIndex 2 none (d + 1) 0 0 [.ref h0, .int x1] hp nx (zQv g Post) := by
  refine z_start (by decide) (Nat.le_of_ble_eq_true rfl) ?_
  intro p e s m below meth c hk hr hin hH hz ls hl
  have hx := hk.1.1
  have hb := hk.1.2.1
  have hown := hk.1.2.2.2.1
  have hts := hk.1.2.2.2.2
  have hS : va_S (zAd g) s.heap s.heap [] := va_S.rf
  have hl : lv_has ls 2 [(0, va_rf (some h0)), (1, .int x1)] := hl
  unfold wp_J27_checkElementIndex at hw
  refine zr_aload_n (r := some h0) hx hb dJ27_checkElementIndex_0 rfl (lv_at hl 0 rfl) ?_
  refine lv_iload_n hx hb dJ27_checkElementIndex_1 rfl (lv_at hl 1 rfl) ?_
  obtain ⟨a_4, ci_5, fs_6, er, he, hc, hw⟩ := zo_e hw
  obtain rfl := List.mem_singleton.mp hc
  refine zr_calli (zw_runV (As := [.int x1]) hk hH hz hS hl.1 er hw (cwV 1 hts (lw_V q1076 q1078 qs17 q173 q1079) rfl rfl rfl (by decide +kernel) (z_room (Nat.le_of_ble_eq_true rfl))) he rfl rfl rfl (Nat.le_of_ble_eq_true rfl) dJ27_checkElementIndex_2 ⟨Nat.le_of_ble_eq_true rfl, Nat.le_of_ble_eq_true rfl⟩) hS (fun x_3 hp_1 nx_2 hw H locs hH hz hS => ?_)
  refine lv_if_ne (tgt := 21) hx hb dJ27_checkElementIndex_5 (by decide) (fun hc => ?_) (fun hc => ?_)
  · have hw := hw.2 hc
    exact zr_vret hk hr hH hz hS hw (Nat.le_of_ble_eq_true rfl) (Nat.le_of_ble_eq_true rfl) dJ27_checkElementIndex_21
  · have hw := hw.1 hc
    exact hw.elim
def wp_J27_isElementIndex (l : Launch) (g : zG) (d : Nat) (h0 : Nat) (x1 : Int32) (hp : zHp) (nx : Nat) (Post : Int32 → zHp → Nat → Prop) : Prop :=
  (∃ P_17 : Int32 → Prop, (∀ (x_1 : Int32), P_17 x_1 →
  (((x_1 = 0 ∨ x_1 = 1) ∧ Post x_1 hp nx))) ∧
  (∃ P_16 : Prop, (P_16 →
  P_17 (0 : Int32)) ∧
  ((x1 < 0 →
  P_16) ∧
  (¬ x1 < 0 →
  (zgI hp (some h0) [36] 1 fun x_5 =>
  ((x_5 ≤ x1 →
  P_16) ∧
  (¬ x_5 ≤ x1 →
  P_17 (1 : Int32))))))))
set_option maxHeartbeats 40000000 in
theorem met_J27_isElementIndex {l : Launch} {g : zG} {d : Nat} {h0 : Nat} {x1 : Int32} {hp : zHp} {nx : Nat} {Post : Int32 → zHp → Nat → Prop} (hw : wp_J27_isElementIndex l g d h0 x1 hp nx Post) : zMt l g yJ27_isElementIndex cJ27_isElementIndex 2 (some .boolean) (d + 1) 0 0 [.ref h0, .int x1] hp nx (zQi g Post) := by
  refine z_start (by decide) (Nat.le_of_ble_eq_true rfl) ?_
  intro p e s m below meth c hk hr hin hH hz ls hl
  have hx := hk.1.1
  have hb := hk.1.2.1
  have hown := hk.1.2.2.2.1
  have hts := hk.1.2.2.2.2
  have hS : va_S (zAd g) s.heap s.heap [] := va_S.rf
  have hl : lv_has ls 2 [(0, va_rf (some h0)), (1, .int x1)] := hl
  unfold wp_J27_isElementIndex at hw
  refine lv_iload_n hx hb dJ27_isElementIndex_0 rfl (lv_at hl 1 rfl) ?_
  obtain ⟨P_17, hP_17, hw⟩ := hw
  have hJ_17 : ∀ (x_1 : Int32) (H : Heap) (locs : List Loc) (ls : Array Slot), P_17 x_1 → lv_has ls 2 [(0, va_rf (some h0)), (1, .int x1)] → zHd g hp H → H.size = nx → va_S (zAd g) s.heap H locs → W p l e (zrm (d + 1) 0 0) s m ([.ref h0, .int x1] : List Value).toArray below meth c H locs 0 0 (MQ below (zQi g Post) ([.ref h0, .int x1] : List Value).toArray s 0 0 (zAd g)) (F0 m 17 ls [.int x_1]) := by
    intro x_1 H locs ls hw hl hH hz hS
    have hw := hP_17 x_1 hw
    exact zr_zret hk hr hH hz hS hw.1 hw.2 (Nat.le_of_ble_eq_true rfl) (Nat.le_of_ble_eq_true rfl) dJ27_isElementIndex_17
  obtain ⟨P_16, hP_16, hw⟩ := hw
  have hJ_16 : ∀  (H : Heap) (locs : List Loc) (ls : Array Slot), P_16  → lv_has ls 2 [(0, va_rf (some h0)), (1, .int x1)] → zHd g hp H → H.size = nx → va_S (zAd g) s.heap H locs → W p l e (zrm (d + 1) 0 0) s m ([.ref h0, .int x1] : List Value).toArray below meth c H locs 0 0 (MQ below (zQi g Post) ([.ref h0, .int x1] : List Value).toArray s 0 0 (zAd g)) (F0 m 16 ls []) := by
    intro  H locs ls hw hl hH hz hS
    have hw := hP_16  hw
    refine lv_iconst (v := (0 : Int32)) hx hb dJ27_isElementIndex_16 (by decide) ?_
    exact hJ_17 (0 : Int32) _ _ _ hw hl hH hz hS
  refine lv_if_lt (tgt := 16) hx hb dJ27_isElementIndex_1 (by decide) (fun hc => ?_) (fun hc => ?_)
  · have hw := hw.1 hc
    exact hJ_16  _ _ _ hw hl hH hz hS
  · have hw := hw.2 hc
    refine lv_iload_n hx hb dJ27_isElementIndex_4 rfl (lv_at hl 1 rfl) ?_
    refine zr_aload_n (r := some h0) hx hb dJ27_isElementIndex_5 rfl (lv_at hl 0 rfl) ?_
    obtain ⟨a_2, ci_3, fs_4, x_5, er, he, hc, hv, hw⟩ := zgI_e hw
    refine zw_get hk hH er he hv (fk_J27_7 hc) dJ27_isElementIndex_6 ?_
    refine lv_icmp_ge (tgt := 16) hx hb dJ27_isElementIndex_9 (by decide) (fun hc => ?_) (fun hc => ?_)
    · have hw := hw.1 hc
      exact hJ_16  _ _ _ hw hl hH hz hS
    · have hw := hw.2 hc
      refine lv_iconst (v := (1 : Int32)) hx hb dJ27_isElementIndex_12 (by decide) ?_
      refine lv_goto (tgt := 17) hx hb dJ27_isElementIndex_13 (by decide) ?_
      exact hJ_17 (1 : Int32) _ _ _ hw hl hH hz hS
theorem fp_J27_7 {ci : Nat} (h : ci ∈ [36]) : zFp "java/util/LinkedList" 7 ci 1 .int := by
  simp only [List.mem_cons, List.not_mem_nil, or_false] at h
  rcases h with rfl
  · exact ⟨RJ27, TJ27, 4, rfl, by decide, q1340, rfl, by decide +kernel⟩
def wp_J27_init (l : Launch) (g : zG) (d : Nat) (h0 : Nat) (hp : zHp) (nx : Nat) (Post : zHp → Nat → Prop) : Prop :=
  (zMt l g yJ26_init cJ26_init 1 none d 0 0 (.ref h0 :: []) hp nx (zQv g fun hp_1 nx_2 =>
  (zpt g hp_1 (some h0) [36] 1 (.int (0 : Int32)) fun hp_6 =>
  (Post hp_6 nx_2))))
set_option maxHeartbeats 40000000 in
theorem met_J27_init {l : Launch} {g : zG} {d : Nat} {h0 : Nat} {hp : zHp} {nx : Nat} {Post : zHp → Nat → Prop} (hw : wp_J27_init l g d h0 hp nx Post) : zMt l g yJ27_init cJ27_init 1 none (d + 1) 0 0 [.ref h0] hp nx (zQv g Post) := by
  refine z_start (by decide) (Nat.le_of_ble_eq_true rfl) ?_
  intro p e s m below meth c hk hr hin hH hz ls hl
  have hx := hk.1.1
  have hb := hk.1.2.1
  have hown := hk.1.2.2.2.1
  have hts := hk.1.2.2.2.2
  have hS : va_S (zAd g) s.heap s.heap [] := va_S.rf
  have hl : lv_has ls 1 [(0, va_rf (some h0))] := hl
  unfold wp_J27_init at hw
  refine zr_aload_n (r := some h0) hx hb dJ27_init_0 rfl (lv_at hl 0 rfl) ?_
  refine zr_callv (zw_runI (As := []) (r := some h0) hk hH hz hS hl.1 rfl hw (cwI 0 hts (lw_meth q1335) rfl rfl rfl (hts _ q172) (hts _ q1333) (hts _ q1334) rfl (by decide +kernel) (z_room (Nat.le_of_ble_eq_true rfl))) rfl rfl (Nat.le_of_ble_eq_true rfl) dJ27_init_1 ⟨Nat.le_of_ble_eq_true rfl, Nat.le_of_ble_eq_true rfl⟩) hS (fun hp_1 nx_2 hw H locs hH hz hS => ?_)
  refine zr_aload_n (r := some h0) hx hb dJ27_init_4 rfl (lv_at hl 0 rfl) ?_
  refine lv_iconst (v := (0 : Int32)) hx hb dJ27_init_5 (by decide) ?_
  obtain ⟨a_3, ci_4, fs_5, hp_6, er, he, hc, hA, hkl, eh, hw⟩ := zpt_e hw
  refine zw_put hk hH hz hS er he hA hkl eh (fp_J27_7 hc) rfl rfl dJ27_init_6 (fun H locs hH hz hS => ?_)
  exact zr_vret hk hr hH hz hS hw (Nat.le_of_ble_eq_true rfl) (Nat.le_of_ble_eq_true rfl) dJ27_init_9
def wp_J27_add (l : Launch) (g : zG) (d : Nat) (mc ms : Nat) (h0 : Nat) (r1 : Option Nat) (hp : zHp) (nx : Nat) (Post : Int32 → zHp → Nat → Prop) : Prop :=
  (∃ c_1 s_2 : Nat, 0 + c_1 ≤ mc ∧ 0 + s_2 ≤ ms ∧ zo hp (some h0) [36] fun a_5 ci_6 fs_7 => zMt l g yJ27_linkLast cJ27_linkLast 4 none d c_1 s_2 (.ref a_5 :: [va_rf r1]) hp nx (zQv g fun hp_3 nx_4 =>
  ((0 + c_1) ≤ mc ∧ (0 + s_2) ≤ ms ∧ Post (1 : Int32) hp_3 nx_4)))
set_option maxHeartbeats 40000000 in
theorem met_J27_add {l : Launch} {g : zG} {d : Nat} {mc ms : Nat} {h0 : Nat} {r1 : Option Nat} {hp : zHp} {nx : Nat} {Post : Int32 → zHp → Nat → Prop} (hw : wp_J27_add l g d mc ms h0 r1 hp nx Post) : zMt l g yJ27_add cJ27_add 2 (some .boolean) (d + 1) mc ms [.ref h0, va_rf r1] hp nx (zQi g Post) := by
  refine z_start (by decide) (by cases r1 <;> exact Nat.le_of_ble_eq_true rfl) ?_
  intro p e s m below meth c hk hr hin hH hz ls hl
  have hx := hk.1.1
  have hb := hk.1.2.1
  have hown := hk.1.2.2.2.1
  have hts := hk.1.2.2.2.2
  have hS : va_S (zAd g) s.heap s.heap [] := va_S.rf
  have hl : lv_has ls 2 [(0, va_rf (some h0)), (1, va_rf r1)] := by cases r1 <;> exact hl
  unfold wp_J27_add at hw
  refine zr_aload_n (r := some h0) hx hb dJ27_add_0 rfl (lv_at hl 0 rfl) ?_
  refine zr_aload_n (r := r1) hx hb dJ27_add_1 rfl (lv_at hl 1 rfl) ?_
  obtain ⟨c_1, s_2, hcl, hsl, hw⟩ := hw
  obtain ⟨a_5, ci_6, fs_7, er, he, hc, hw⟩ := zo_e hw
  obtain rfl := List.mem_singleton.mp hc
  refine zr_callv (zw_runV (As := [va_rf r1]) hk hH hz hS hl.1 er hw (cwV 1 hts (lw_V q1652 q1653 q1654 q173 q1655) rfl rfl rfl (by decide +kernel) (z_room (Nat.le_of_ble_eq_true rfl))) he rfl rfl rfl (Nat.le_of_ble_eq_true rfl) dJ27_add_2 ⟨hcl, hsl⟩) hS (fun hp_3 nx_4 hw H locs hH hz hS => ?_)
  refine lv_iconst (v := (1 : Int32)) hx hb dJ27_add_5 (by decide) ?_
  obtain ⟨hkc, hks, hw⟩ := hw
  exact zr_zret hk hr hH hz hS (Or.inr rfl) hw hkc hks dJ27_add_6
def wp_J28_isValidCodePoint (l : Launch) (g : zG) (d : Nat) (x0 : Int32) (hp : zHp) (nx : Nat) (Post : Int32 → zHp → Nat → Prop) : Prop :=
  (∀ x_1 : Int32, x_1 = (x0.toUInt32 >>> ((16 : Int32).toUInt32 &&& Int32.toUInt32 31)).toInt32 →
  (∃ P_16 : Int32 → Int32 → Prop, (∀ (x_2 : Int32) (x_3 : Int32), P_16 x_2 x_3 →
  (((x_3 = 0 ∨ x_3 = 1) ∧ Post x_3 hp nx))) ∧
  (((17 : Int32) ≤ x_1 →
  P_16 x_1 (0 : Int32)) ∧
  (¬ (17 : Int32) ≤ x_1 →
  P_16 x_1 (1 : Int32)))))
set_option maxHeartbeats 40000000 in
theorem met_J28_isValidCodePoint {l : Launch} {g : zG} {d : Nat} {x0 : Int32} {hp : zHp} {nx : Nat} {Post : Int32 → zHp → Nat → Prop} (hw : wp_J28_isValidCodePoint l g d x0 hp nx Post) : zMt l g yJ28_isValidCodePoint cJ28_isValidCodePoint 2 (some .boolean) (d + 1) 0 0 [.int x0] hp nx (zQi g Post) := by
  refine z_start (by decide) (Nat.le_of_ble_eq_true rfl) ?_
  intro p e s m below meth c hk hr hin hH hz ls hl
  have hx := hk.1.1
  have hb := hk.1.2.1
  have hown := hk.1.2.2.2.1
  have hts := hk.1.2.2.2.2
  have hS : va_S (zAd g) s.heap s.heap [] := va_S.rf
  have hl : lv_has ls 2 [(0, .int x0)] := hl
  unfold wp_J28_isValidCodePoint at hw
  refine lv_iload_n hx hb dJ28_isValidCodePoint_0 rfl (lv_at hl 0 rfl) ?_
  refine lv_bipush (v := (16 : Int32)) hx hb dJ28_isValidCodePoint_1 (by decide) ?_
  refine lv_iushr hx hb dJ28_isValidCodePoint_3 rfl ?_
  refine lv_topi (fun x_1 ex_1 => ?_)
  have hw := hw x_1 ex_1
  refine lv_istore_n (i := 1) (lv' := [(1, .int x_1), (0, .int x0)]) hx hb dJ28_isValidCodePoint_4 rfl hl (by decide) (by first | rfl | simp [List.filter_cons, z_cat, z_catI, z_catJ, z_catF, z_catD]) (fun ls hl => ?_)
  refine lv_iload_n hx hb dJ28_isValidCodePoint_5 rfl (lv_at hl 0 rfl) ?_
  refine lv_bipush (v := (17 : Int32)) hx hb dJ28_isValidCodePoint_6 (by decide) ?_
  obtain ⟨P_16, hP_16, hw⟩ := hw
  have hJ_16 : ∀ (x_2 : Int32) (x_3 : Int32) (H : Heap) (locs : List Loc) (ls : Array Slot), P_16 x_2 x_3 → lv_has ls 2 [(0, .int x0), (1, .int x_2)] → zHd g hp H → H.size = nx → va_S (zAd g) s.heap H locs → W p l e (zrm (d + 1) 0 0) s m ([.int x0] : List Value).toArray below meth c H locs 0 0 (MQ below (zQi g Post) ([.int x0] : List Value).toArray s 0 0 (zAd g)) (F0 m 16 ls [.int x_3]) := by
    intro x_2 x_3 H locs ls hw hl hH hz hS
    have hw := hP_16 x_2 x_3 hw
    exact zr_zret hk hr hH hz hS hw.1 hw.2 (Nat.le_of_ble_eq_true rfl) (Nat.le_of_ble_eq_true rfl) dJ28_isValidCodePoint_16
  refine lv_icmp_ge (tgt := 15) hx hb dJ28_isValidCodePoint_8 (by decide) (fun hc => ?_) (fun hc => ?_)
  · have hw := hw.1 hc
    refine lv_iconst (v := (0 : Int32)) hx hb dJ28_isValidCodePoint_15 (by decide) ?_
    exact hJ_16 x_1 (0 : Int32) _ _ _ hw (lv_sub hl [1, 0] rfl) hH hz hS
  · have hw := hw.2 hc
    refine lv_iconst (v := (1 : Int32)) hx hb dJ28_isValidCodePoint_11 (by decide) ?_
    refine lv_goto (tgt := 16) hx hb dJ28_isValidCodePoint_12 (by decide) ?_
    exact hJ_16 x_1 (1 : Int32) _ _ _ hw (lv_sub hl [1, 0] rfl) hH hz hS
def wp_J28_highSurrogate (l : Launch) (g : zG) (d : Nat) (x0 : Int32) (hp : zHp) (nx : Nat) (Post : Int32 → zHp → Nat → Prop) : Prop :=
  ((narrow .char (.int (((((x0.toUInt32 >>> ((10 : Int32).toUInt32 &&& Int32.toUInt32 31)).toInt32) + (55232 : Int32)).toUInt32 % 65536).toInt32)) = .int (((((x0.toUInt32 >>> ((10 : Int32).toUInt32 &&& Int32.toUInt32 31)).toInt32) + (55232 : Int32)).toUInt32 % 65536).toInt32) ∧ Post (((((x0.toUInt32 >>> ((10 : Int32).toUInt32 &&& Int32.toUInt32 31)).toInt32) + (55232 : Int32)).toUInt32 % 65536).toInt32) hp nx))
set_option maxHeartbeats 40000000 in
theorem met_J28_highSurrogate {l : Launch} {g : zG} {d : Nat} {x0 : Int32} {hp : zHp} {nx : Nat} {Post : Int32 → zHp → Nat → Prop} (hw : wp_J28_highSurrogate l g d x0 hp nx Post) : zMt l g yJ28_highSurrogate cJ28_highSurrogate 1 (some .char) (d + 1) 0 0 [.int x0] hp nx (zQi g Post) := by
  refine z_start (by decide) (Nat.le_of_ble_eq_true rfl) ?_
  intro p e s m below meth c hk hr hin hH hz ls hl
  have hx := hk.1.1
  have hb := hk.1.2.1
  have hown := hk.1.2.2.2.1
  have hts := hk.1.2.2.2.2
  have hS : va_S (zAd g) s.heap s.heap [] := va_S.rf
  have hl : lv_has ls 1 [(0, .int x0)] := hl
  unfold wp_J28_highSurrogate at hw
  refine lv_iload_n hx hb dJ28_highSurrogate_0 rfl (lv_at hl 0 rfl) ?_
  refine lv_bipush (v := (10 : Int32)) hx hb dJ28_highSurrogate_1 (by decide) ?_
  refine lv_iushr hx hb dJ28_highSurrogate_3 rfl ?_
  refine lv_ldc hx hb hown (hts _ q1518) dJ28_highSurrogate_4 ?_
  refine lv_iadd hx hb dJ28_highSurrogate_6 ?_
  refine lv_i2c hx hb dJ28_highSurrogate_7 rfl ?_
  exact zr_nret hk hr hH hz hS hw.1 hw.2 (Nat.le_of_ble_eq_true rfl) (Nat.le_of_ble_eq_true rfl) dJ28_highSurrogate_8
def wp_J28_lowSurrogate (l : Launch) (g : zG) (d : Nat) (x0 : Int32) (hp : zHp) (nx : Nat) (Post : Int32 → zHp → Nat → Prop) : Prop :=
  ((narrow .char (.int ((((x0 &&& (1023 : Int32)) + (56320 : Int32)).toUInt32 % 65536).toInt32)) = .int ((((x0 &&& (1023 : Int32)) + (56320 : Int32)).toUInt32 % 65536).toInt32) ∧ Post ((((x0 &&& (1023 : Int32)) + (56320 : Int32)).toUInt32 % 65536).toInt32) hp nx))
set_option maxHeartbeats 40000000 in
theorem met_J28_lowSurrogate {l : Launch} {g : zG} {d : Nat} {x0 : Int32} {hp : zHp} {nx : Nat} {Post : Int32 → zHp → Nat → Prop} (hw : wp_J28_lowSurrogate l g d x0 hp nx Post) : zMt l g yJ28_lowSurrogate cJ28_lowSurrogate 1 (some .char) (d + 1) 0 0 [.int x0] hp nx (zQi g Post) := by
  refine z_start (by decide) (Nat.le_of_ble_eq_true rfl) ?_
  intro p e s m below meth c hk hr hin hH hz ls hl
  have hx := hk.1.1
  have hb := hk.1.2.1
  have hown := hk.1.2.2.2.1
  have hts := hk.1.2.2.2.2
  have hS : va_S (zAd g) s.heap s.heap [] := va_S.rf
  have hl : lv_has ls 1 [(0, .int x0)] := hl
  unfold wp_J28_lowSurrogate at hw
  refine lv_iload_n hx hb dJ28_lowSurrogate_0 rfl (lv_at hl 0 rfl) ?_
  refine lv_sipush (v := (1023 : Int32)) hx hb dJ28_lowSurrogate_1 (by decide) ?_
  refine lv_iand hx hb dJ28_lowSurrogate_4 ?_
  refine lv_ldc hx hb hown (hts _ q1522) dJ28_lowSurrogate_5 ?_
  refine lv_iadd hx hb dJ28_lowSurrogate_7 ?_
  refine lv_i2c hx hb dJ28_lowSurrogate_8 rfl ?_
  exact zr_nret hk hr hH hz hS hw.1 hw.2 (Nat.le_of_ble_eq_true rfl) (Nat.le_of_ble_eq_true rfl) dJ28_lowSurrogate_9
theorem fp_J29_7 {ci : Nat} (h : ci ∈ [37]) : zFp "java/util/LinkedList$Node" 7 ci 0 (.object "java/lang/Object") := by
  simp only [List.mem_cons, List.not_mem_nil, or_false] at h
  rcases h with rfl
  · exact ⟨RJ29, TJ29, 3, rfl, by decide, q1662, rfl, by decide +kernel⟩
theorem fp_J29_13 {ci : Nat} (h : ci ∈ [37]) : zFp "java/util/LinkedList$Node" 13 ci 1 (.object "java/util/LinkedList$Node") := by
  simp only [List.mem_cons, List.not_mem_nil, or_false] at h
  rcases h with rfl
  · exact ⟨RJ29, TJ29, 3, rfl, by decide, q1665, rfl, by decide +kernel⟩
theorem fp_J29_17 {ci : Nat} (h : ci ∈ [37]) : zFp "java/util/LinkedList$Node" 17 ci 2 (.object "java/util/LinkedList$Node") := by
  simp only [List.mem_cons, List.not_mem_nil, or_false] at h
  rcases h with rfl
  · exact ⟨RJ29, TJ29, 3, rfl, by decide, q1668, rfl, by decide +kernel⟩
def wp_J29_init (l : Launch) (g : zG) (d : Nat) (h0 : Nat) (r1 : Option Nat) (r2 : Option Nat) (r3 : Option Nat) (hp : zHp) (nx : Nat) (Post : zHp → Nat → Prop) : Prop :=
  (zpt g hp (some h0) [37] 0 (va_rf r2) fun hp_4 =>
  (zpt g hp_4 (some h0) [37] 1 (va_rf r3) fun hp_8 =>
  (zpt g hp_8 (some h0) [37] 2 (va_rf r1) fun hp_12 =>
  (Post hp_12 nx))))
set_option maxHeartbeats 40000000 in
theorem met_J29_init {l : Launch} {g : zG} {d : Nat} {h0 : Nat} {r1 : Option Nat} {r2 : Option Nat} {r3 : Option Nat} {hp : zHp} {nx : Nat} {Post : zHp → Nat → Prop} (hw : wp_J29_init l g d h0 r1 r2 r3 hp nx Post) : zMt l g yJ29_init cJ29_init 4 none (d + 1) 0 0 [.ref h0, va_rf r1, va_rf r2, va_rf r3] hp nx (zQv g Post) := by
  refine z_start (by decide) (by cases r1 <;> cases r2 <;> cases r3 <;> exact Nat.le_of_ble_eq_true rfl) ?_
  intro p e s m below meth c hk hr hin hH hz ls hl
  have hx := hk.1.1
  have hb := hk.1.2.1
  have hown := hk.1.2.2.2.1
  have hts := hk.1.2.2.2.2
  have hS : va_S (zAd g) s.heap s.heap [] := va_S.rf
  have hl : lv_has ls 4 [(0, va_rf (some h0)), (1, va_rf r1), (2, va_rf r2), (3, va_rf r3)] := by cases r1 <;> cases r2 <;> cases r3 <;> exact hl
  unfold wp_J29_init at hw
  refine zr_aload_n (r := some h0) hx hb dJ29_init_0 rfl (lv_at hl 0 rfl) ?_
  refine W.objInit (a := h0) hx hb hown (hts _ q1661) (hts _ q206) (hts _ q207) rfl (by rw [hk.1.2.2.1]; exact hl.1) rfl dJ29_init_1 (Nat.le_add_left 1 d) (Nat.le_trans (Nat.le_of_ble_eq_true rfl : _ ≤ 64) (by show 64 ≤ 64 * (d + 1); omega)) ?_
  refine W.eq (g2 := F0 m 4 ls []) rfl ?_
  refine zr_aload_n (r := some h0) hx hb dJ29_init_4 rfl (lv_at hl 0 rfl) ?_
  refine zr_aload_n (r := r2) hx hb dJ29_init_5 rfl (lv_at hl 2 rfl) ?_
  obtain ⟨a_1, ci_2, fs_3, hp_4, er, he, hc, hA, hkl, eh, hw⟩ := zpt_e hw
  refine zw_put hk hH hz hS er he hA hkl eh (fp_J29_7 hc) (z_narR _ _) (z_fitR _ _) dJ29_init_6 (fun H locs hH hz hS => ?_)
  refine zr_aload_n (r := some h0) hx hb dJ29_init_9 rfl (lv_at hl 0 rfl) ?_
  refine zr_aload_n (r := r3) hx hb dJ29_init_10 rfl (lv_at hl 3 rfl) ?_
  obtain ⟨a_5, ci_6, fs_7, hp_8, er, he, hc, hA, hkl, eh, hw⟩ := zpt_e hw
  refine zw_put hk hH hz hS er he hA hkl eh (fp_J29_13 hc) (z_narR _ _) (z_fitR _ _) dJ29_init_11 (fun H locs hH hz hS => ?_)
  refine zr_aload_n (r := some h0) hx hb dJ29_init_14 rfl (lv_at hl 0 rfl) ?_
  refine zr_aload_n (r := r1) hx hb dJ29_init_15 rfl (lv_at hl 1 rfl) ?_
  obtain ⟨a_9, ci_10, fs_11, hp_12, er, he, hc, hA, hkl, eh, hw⟩ := zpt_e hw
  refine zw_put hk hH hz hS er he hA hkl eh (fp_J29_17 hc) (z_narR _ _) (z_fitR _ _) dJ29_init_16 (fun H locs hH hz hS => ?_)
  exact zr_vret hk hr hH hz hS hw (Nat.le_of_ble_eq_true rfl) (Nat.le_of_ble_eq_true rfl) dJ29_init_19
def wp_J3_init (l : Launch) (g : zG) (d : Nat) (mc ms : Nat) (h0 : Nat) (hp : zHp) (nx : Nat) (Post : zHp → Nat → Prop) : Prop :=
  (∃ c_1 s_2 : Nat, 0 + c_1 ≤ mc ∧ 0 + s_2 ≤ ms ∧ zMt l g yJ2_init cJ2_init 1 none d c_1 s_2 (.ref h0 :: []) hp nx (zQv g fun hp_3 nx_4 =>
  ((0 + c_1) ≤ mc ∧ (0 + s_2) ≤ ms ∧ Post hp_3 nx_4)))
set_option maxHeartbeats 40000000 in
theorem met_J3_init {l : Launch} {g : zG} {d : Nat} {mc ms : Nat} {h0 : Nat} {hp : zHp} {nx : Nat} {Post : zHp → Nat → Prop} (hw : wp_J3_init l g d mc ms h0 hp nx Post) : zMt l g yJ3_init cJ3_init 1 none (d + 1) mc ms [.ref h0] hp nx (zQv g Post) := by
  refine z_start (by decide) (Nat.le_of_ble_eq_true rfl) ?_
  intro p e s m below meth c hk hr hin hH hz ls hl
  have hx := hk.1.1
  have hb := hk.1.2.1
  have hown := hk.1.2.2.2.1
  have hts := hk.1.2.2.2.2
  have hS : va_S (zAd g) s.heap s.heap [] := va_S.rf
  have hl : lv_has ls 1 [(0, va_rf (some h0))] := hl
  unfold wp_J3_init at hw
  refine zr_aload_n (r := some h0) hx hb dJ3_init_0 rfl (lv_at hl 0 rfl) ?_
  obtain ⟨c_1, s_2, hcl, hsl, hw⟩ := hw
  refine zr_callv (zw_runI (As := []) (r := some h0) hk hH hz hS hl.1 rfl hw (cwI 0 hts (lw_meth q357) rfl rfl rfl (hts _ q135) (hts _ q355) (hts _ q356) rfl (by decide +kernel) (z_room (Nat.le_of_ble_eq_true rfl))) rfl rfl (Nat.le_of_ble_eq_true rfl) dJ3_init_1 ⟨hcl, hsl⟩) hS (fun hp_3 nx_4 hw H locs hH hz hS => ?_)
  obtain ⟨hkc, hks, hw⟩ := hw
  exact zr_vret hk hr hH hz hS hw hkc hks dJ3_init_4
def wp_J3_init_2 (l : Launch) (g : zG) (d : Nat) (mc ms : Nat) (h0 : Nat) (r1 : Option Nat) (hp : zHp) (nx : Nat) (Post : zHp → Nat → Prop) : Prop :=
  (∃ c_1 s_2 : Nat, 0 + c_1 ≤ mc ∧ 0 + s_2 ≤ ms ∧ zMt l g yJ2_init_2 cJ2_init_2 2 none d c_1 s_2 (.ref h0 :: [va_rf r1]) hp nx (zQv g fun hp_3 nx_4 =>
  ((0 + c_1) ≤ mc ∧ (0 + s_2) ≤ ms ∧ Post hp_3 nx_4)))
set_option maxHeartbeats 40000000 in
theorem met_J3_init_2 {l : Launch} {g : zG} {d : Nat} {mc ms : Nat} {h0 : Nat} {r1 : Option Nat} {hp : zHp} {nx : Nat} {Post : zHp → Nat → Prop} (hw : wp_J3_init_2 l g d mc ms h0 r1 hp nx Post) : zMt l g yJ3_init_2 cJ3_init_2 2 none (d + 1) mc ms [.ref h0, va_rf r1] hp nx (zQv g Post) := by
  refine z_start (by decide) (by cases r1 <;> exact Nat.le_of_ble_eq_true rfl) ?_
  intro p e s m below meth c hk hr hin hH hz ls hl
  have hx := hk.1.1
  have hb := hk.1.2.1
  have hown := hk.1.2.2.2.1
  have hts := hk.1.2.2.2.2
  have hS : va_S (zAd g) s.heap s.heap [] := va_S.rf
  have hl : lv_has ls 2 [(0, va_rf (some h0)), (1, va_rf r1)] := by cases r1 <;> exact hl
  unfold wp_J3_init_2 at hw
  refine zr_aload_n (r := some h0) hx hb dJ3_init_2_0 rfl (lv_at hl 0 rfl) ?_
  refine zr_aload_n (r := r1) hx hb dJ3_init_2_1 rfl (lv_at hl 1 rfl) ?_
  obtain ⟨c_1, s_2, hcl, hsl, hw⟩ := hw
  refine zr_callv (zw_runI (As := [va_rf r1]) (r := some h0) hk hH hz hS hl.1 rfl hw (cwI 1 hts (lw_meth q602) rfl rfl rfl (hts _ q135) (hts _ q600) (hts _ q601) rfl (by decide +kernel) (z_room (Nat.le_of_ble_eq_true rfl))) rfl rfl (Nat.le_of_ble_eq_true rfl) dJ3_init_2_2 ⟨hcl, hsl⟩) hS (fun hp_3 nx_4 hw H locs hH hz hS => ?_)
  obtain ⟨hkc, hks, hw⟩ := hw
  exact zr_vret hk hr hH hz hS hw hkc hks dJ3_init_2_5
def wp_J3_init_3 (l : Launch) (g : zG) (d : Nat) (mc ms : Nat) (h0 : Nat) (r1 : Option Nat) (hp : zHp) (nx : Nat) (Post : zHp → Nat → Prop) : Prop :=
  (∃ c_1 s_2 : Nat, 0 + c_1 ≤ mc ∧ 0 + s_2 ≤ ms ∧ zMt l g yJ2_init_3 cJ2_init_3 2 none d c_1 s_2 (.ref h0 :: [va_rf r1]) hp nx (zQv g fun hp_3 nx_4 =>
  ((0 + c_1) ≤ mc ∧ (0 + s_2) ≤ ms ∧ Post hp_3 nx_4)))
set_option maxHeartbeats 40000000 in
theorem met_J3_init_3 {l : Launch} {g : zG} {d : Nat} {mc ms : Nat} {h0 : Nat} {r1 : Option Nat} {hp : zHp} {nx : Nat} {Post : zHp → Nat → Prop} (hw : wp_J3_init_3 l g d mc ms h0 r1 hp nx Post) : zMt l g yJ3_init_3 cJ3_init_3 2 none (d + 1) mc ms [.ref h0, va_rf r1] hp nx (zQv g Post) := by
  refine z_start (by decide) (by cases r1 <;> exact Nat.le_of_ble_eq_true rfl) ?_
  intro p e s m below meth c hk hr hin hH hz ls hl
  have hx := hk.1.1
  have hb := hk.1.2.1
  have hown := hk.1.2.2.2.1
  have hts := hk.1.2.2.2.2
  have hS : va_S (zAd g) s.heap s.heap [] := va_S.rf
  have hl : lv_has ls 2 [(0, va_rf (some h0)), (1, va_rf r1)] := by cases r1 <;> exact hl
  unfold wp_J3_init_3 at hw
  refine zr_aload_n (r := some h0) hx hb dJ3_init_3_0 rfl (lv_at hl 0 rfl) ?_
  refine zr_aload_n (r := r1) hx hb dJ3_init_3_1 rfl (lv_at hl 1 rfl) ?_
  obtain ⟨c_1, s_2, hcl, hsl, hw⟩ := hw
  refine zr_callv (zw_runI (As := [va_rf r1]) (r := some h0) hk hH hz hS hl.1 rfl hw (cwI 1 hts (lw_meth q1098) rfl rfl rfl (hts _ q135) (hts _ q1096) (hts _ q1097) rfl (by decide +kernel) (z_room (Nat.le_of_ble_eq_true rfl))) rfl rfl (Nat.le_of_ble_eq_true rfl) dJ3_init_3_2 ⟨hcl, hsl⟩) hS (fun hp_3 nx_4 hw H locs hH hz hS => ?_)
  obtain ⟨hkc, hks, hw⟩ := hw
  exact zr_vret hk hr hH hz hS hw hkc hks dJ3_init_3_5
def wp_J3_init_4 (l : Launch) (g : zG) (d : Nat) (mc ms : Nat) (h0 : Nat) (r1 : Option Nat) (r2 : Option Nat) (x3 : Int32) (x4 : Int32) (hp : zHp) (nx : Nat) (Post : zHp → Nat → Prop) : Prop :=
  (∃ c_1 s_2 : Nat, 0 + c_1 ≤ mc ∧ 0 + s_2 ≤ ms ∧ zMt l g yJ2_init_4 cJ2_init_4 5 none d c_1 s_2 (.ref h0 :: [va_rf r1, va_rf r2, .int x3, .int x4]) hp nx (zQv g fun hp_3 nx_4 =>
  ((0 + c_1) ≤ mc ∧ (0 + s_2) ≤ ms ∧ Post hp_3 nx_4)))
set_option maxHeartbeats 40000000 in
theorem met_J3_init_4 {l : Launch} {g : zG} {d : Nat} {mc ms : Nat} {h0 : Nat} {r1 : Option Nat} {r2 : Option Nat} {x3 : Int32} {x4 : Int32} {hp : zHp} {nx : Nat} {Post : zHp → Nat → Prop} (hw : wp_J3_init_4 l g d mc ms h0 r1 r2 x3 x4 hp nx Post) : zMt l g yJ3_init_4 cJ3_init_4 5 none (d + 1) mc ms [.ref h0, va_rf r1, va_rf r2, .int x3, .int x4] hp nx (zQv g Post) := by
  refine z_start (by decide) (by cases r1 <;> cases r2 <;> exact Nat.le_of_ble_eq_true rfl) ?_
  intro p e s m below meth c hk hr hin hH hz ls hl
  have hx := hk.1.1
  have hb := hk.1.2.1
  have hown := hk.1.2.2.2.1
  have hts := hk.1.2.2.2.2
  have hS : va_S (zAd g) s.heap s.heap [] := va_S.rf
  have hl : lv_has ls 5 [(0, va_rf (some h0)), (1, va_rf r1), (2, va_rf r2), (3, .int x3), (4, .int x4)] := by cases r1 <;> cases r2 <;> exact hl
  unfold wp_J3_init_4 at hw
  refine zr_aload_n (r := some h0) hx hb dJ3_init_4_0 rfl (lv_at hl 0 rfl) ?_
  refine zr_aload_n (r := r1) hx hb dJ3_init_4_1 rfl (lv_at hl 1 rfl) ?_
  refine zr_aload_n (r := r2) hx hb dJ3_init_4_2 rfl (lv_at hl 2 rfl) ?_
  refine lv_iload_n hx hb dJ3_init_4_3 rfl (lv_at hl 3 rfl) ?_
  refine lv_iload hx hb dJ3_init_4_4 (lv_at hl 4 rfl) ?_
  obtain ⟨c_1, s_2, hcl, hsl, hw⟩ := hw
  refine zr_callv (zw_runI (As := [va_rf r1, va_rf r2, .int x3, .int x4]) (r := some h0) hk hH hz hS hl.1 rfl hw (cwI 4 hts (lw_meth q1193) rfl rfl rfl (hts _ q135) (hts _ q1465) (hts _ q1192) rfl (by decide +kernel) (z_room (Nat.le_of_ble_eq_true rfl))) rfl rfl (Nat.le_of_ble_eq_true rfl) dJ3_init_4_6 ⟨hcl, hsl⟩) hS (fun hp_3 nx_4 hw H locs hH hz hS => ?_)
  obtain ⟨hkc, hks, hw⟩ := hw
  exact zr_vret hk hr hH hz hS hw hkc hks dJ3_init_4_9
theorem fp_J5_15 {ci : Nat} (h : ci ∈ [39]) : zFp "java/lang/AbstractStringBuilder" 15 ci 0 (.array .byte) := by
  simp only [List.mem_cons, List.not_mem_nil, or_false] at h
  rcases h with rfl
  · exact ⟨RJ6, TJ6, 4, rfl, by decide, q373, rfl, by decide +kernel⟩
theorem fp_J5_22 {ci : Nat} (h : ci ∈ [39]) : zFp "java/lang/AbstractStringBuilder" 22 ci 1 .byte := by
  simp only [List.mem_cons, List.not_mem_nil, or_false] at h
  rcases h with rfl
  · exact ⟨RJ6, TJ6, 4, rfl, by decide, q374, rfl, by decide +kernel⟩
def wp_J5_init (l : Launch) (g : zG) (d : Nat) (mc ms : Nat) (h0 : Nat) (x1 : Int32) (hp : zHp) (nx : Nat) (Post : zHp → Nat → Prop) : Prop :=
  (∃ P_38 : zHp → Nat → Nat → Nat → Prop, (∀ (hp_1 : zHp) (nx_2 : Nat) (kc_3 : Nat) (ks_4 : Nat), P_38 hp_1 nx_2 kc_3 ks_4 →
  (kc_3 ≤ mc ∧ ks_4 ≤ ms ∧ Post hp_1 nx_2)) ∧
  (((1 : Int32) = 0 →
  (∃ c_5 s_6 : Nat, 0 + c_5 ≤ mc ∧ 0 + s_6 ≤ ms ∧ zMt l g yJ8_newBytesFor cJ8_newBytesFor 1 (some (.array .byte)) d c_5 s_6 [.int x1] hp nx (zQq g fun r_9 hp_7 nx_8 =>
  (zpt g hp_7 (some h0) [39] 0 (va_rf r_9) fun hp_13 =>
  ((narrow .byte (.int (1 : Int32)) = .int (1 : Int32) ∧ fits .byte (.int (1 : Int32)) = true) ∧ zpt g hp_13 (some h0) [39] 1 (.int (1 : Int32)) fun hp_17 =>
  P_38 hp_17 nx_8 (0 + c_5) (0 + s_6)))))) ∧
  (¬ (1 : Int32) = 0 →
  (zna g mc ms hp nx 0 0 2 x1 (.inl (fun _ => 0)) fun hp_18 =>
  ∀ nx_19 kc_20 ks_21 : Nat, nx_19 = (nx + 1) → kc_20 = (0 + 1) → ks_21 = (0 + x1.toNatClampNeg) →
  (zpt g hp_18 (some h0) [39] 0 (va_rf (some nx)) fun hp_25 =>
  ((narrow .byte (.int (0 : Int32)) = .int (0 : Int32) ∧ fits .byte (.int (0 : Int32)) = true) ∧ zpt g hp_25 (some h0) [39] 1 (.int (0 : Int32)) fun hp_29 =>
  P_38 hp_29 nx_19 kc_20 ks_21))))))
set_option maxHeartbeats 40000000 in
theorem met_J5_init {l : Launch} {g : zG} {d : Nat} {mc ms : Nat} {h0 : Nat} {x1 : Int32} {hp : zHp} {nx : Nat} {Post : zHp → Nat → Prop} (hw : wp_J5_init l g d mc ms h0 x1 hp nx Post) : zMt l g yJ5_init cJ5_init 2 none (d + 1) mc ms [.ref h0, .int x1] hp nx (zQv g Post) := by
  refine z_start (by decide) (Nat.le_of_ble_eq_true rfl) ?_
  intro p e s m below meth c hk hr hin hH hz ls hl
  have hx := hk.1.1
  have hb := hk.1.2.1
  have hown := hk.1.2.2.2.1
  have hts := hk.1.2.2.2.2
  have hS : va_S (zAd g) s.heap s.heap [] := va_S.rf
  have hl : lv_has ls 2 [(0, va_rf (some h0)), (1, .int x1)] := hl
  unfold wp_J5_init at hw
  refine zr_aload_n (r := some h0) hx hb dJ5_init_0 rfl (lv_at hl 0 rfl) ?_
  refine W.objInit (a := h0) hx hb hown (hts _ q339) (hts _ q206) (hts _ q207) rfl (by rw [hk.1.2.2.1]; exact hl.1) rfl dJ5_init_1 (Nat.le_add_left 1 d) (Nat.le_trans (Nat.le_of_ble_eq_true rfl : _ ≤ 64) (by show 64 ≤ 64 * (d + 1); omega)) ?_
  refine W.eq (g2 := F0 m 4 ls []) rfl ?_
  refine zw_gets hk hS 2 rfl q340 dJ5_init_4 ?_
  obtain ⟨P_38, hP_38, hw⟩ := hw
  have hJ_38 : ∀ (hp_1 : zHp) (nx_2 : Nat) (kc_3 : Nat) (ks_4 : Nat) (H : Heap) (locs : List Loc) (ls : Array Slot), P_38 hp_1 nx_2 kc_3 ks_4 → lv_has ls 2 [(0, va_rf (some h0)), (1, .int x1)] → zHd g hp_1 H → H.size = nx_2 → va_S (zAd g) s.heap H locs → W p l e (zrm (d + 1) mc ms) s m ([.ref h0, .int x1] : List Value).toArray below meth c H locs kc_3 ks_4 (MQ below (zQv g Post) ([.ref h0, .int x1] : List Value).toArray s mc ms (zAd g)) (F0 m 38 ls []) := by
    intro hp_1 nx_2 kc_3 ks_4 H locs ls hw hl hH hz hS
    have hw := hP_38 hp_1 nx_2 kc_3 ks_4 hw
    obtain ⟨hkc, hks, hw⟩ := hw
    exact zr_vret hk hr hH hz hS hw hkc hks dJ5_init_38
  refine lv_if_eq (tgt := 25) hx hb dJ5_init_7 (by decide) (fun hc => ?_) (fun hc => ?_)
  · have hw := hw.1 hc
    refine zr_aload_n (r := some h0) hx hb dJ5_init_25 rfl (lv_at hl 0 rfl) ?_
    refine lv_iload_n hx hb dJ5_init_26 rfl (lv_at hl 1 rfl) ?_
    obtain ⟨c_5, s_6, hcl, hsl, hw⟩ := hw
    refine zr_callq (zr_runS (As := [.int x1]) hk hH hz hS hl.1 hw (va_cwS 1 hts (lw_S q342 q343 q141 q344) rfl rfl rfl (by decide +kernel) (z_room (Nat.le_of_ble_eq_true rfl))) rfl rfl (by simp only [List.map_cons, List.map_nil, z_cat]; exact Nat.le_of_ble_eq_true rfl) dJ5_init_27 ⟨hcl, hsl⟩) hS (fun r_9 hp_7 nx_8 hw H locs hH hz hS => ?_)
    obtain ⟨a_10, ci_11, fs_12, hp_13, er, he, hc, hA, hkl, eh, hw⟩ := zpt_e hw
    refine zw_put hk hH hz hS er he hA hkl eh (fp_J5_15 hc) (z_narA _ _) (z_fitA _ _) dJ5_init_30 (fun H locs hH hz hS => ?_)
    refine zr_aload_n (r := some h0) hx hb dJ5_init_33 rfl (lv_at hl 0 rfl) ?_
    refine lv_iconst (v := (1 : Int32)) hx hb dJ5_init_34 (by decide) ?_
    obtain ⟨hbo, hw⟩ := hw
    obtain ⟨a_14, ci_15, fs_16, hp_17, er, he, hc, hA, hkl, eh, hw⟩ := zpt_e hw
    refine zw_put hk hH hz hS er he hA hkl eh (fp_J5_22 hc) hbo.1 hbo.2 dJ5_init_35 (fun H locs hH hz hS => ?_)
    exact hJ_38 hp_17 nx_8 (0 + c_5) (0 + s_6) _ _ _ hw hl hH hz hS
  · have hw := hw.2 hc
    refine zr_aload_n (r := some h0) hx hb dJ5_init_10 rfl (lv_at hl 0 rfl) ?_
    refine lv_iload_n hx hb dJ5_init_11 rfl (lv_at hl 1 rfl) ?_
    obtain ⟨hn0, hn1, hcl, hsl, hw⟩ := hw
    refine zx_newa hk hH hz hS (atype := .byte) 2 (ty := .byte) rfl q276 rfl (fun _ _ h => h) (a0 := (x1.toNatClampNeg, .inl (fun _ => 0))) (fun _ => rfl) hn0 rfl (by simp only [componentBytes]; omega) hcl hsl dJ5_init_12 (fun H hH hz hS hlt hnb => ?_)
    have hw := hw hlt hnb
    generalize va_up hp nx _ = hp_18 at hH hw
    obtain ⟨kc_20, ekc⟩ : ∃ k, k = (0 + 1) := ⟨_, rfl⟩
    obtain ⟨ks_21, eks⟩ : ∃ k, k = (0 + x1.toNatClampNeg) := ⟨_, rfl⟩
    have hw := hw _ _ _ rfl ekc eks
    refine W.widen (Nat.le_of_eq ekc.symm) (Nat.le_of_eq eks.symm) ?_
    clear ekc eks
    generalize (nx + 1) = nx_19 at hz hw
    obtain ⟨a_22, ci_23, fs_24, hp_25, er, he, hc, hA, hkl, eh, hw⟩ := zpt_e hw
    refine zw_put hk hH hz hS er he hA hkl eh (fp_J5_15 hc) (z_narA _ _) (z_fitA _ _) dJ5_init_14 (fun H locs hH hz hS => ?_)
    refine zr_aload_n (r := some h0) hx hb dJ5_init_17 rfl (lv_at hl 0 rfl) ?_
    refine lv_iconst (v := (0 : Int32)) hx hb dJ5_init_18 (by decide) ?_
    obtain ⟨hbo, hw⟩ := hw
    obtain ⟨a_26, ci_27, fs_28, hp_29, er, he, hc, hA, hkl, eh, hw⟩ := zpt_e hw
    refine zw_put hk hH hz hS er he hA hkl eh (fp_J5_22 hc) hbo.1 hbo.2 dJ5_init_19 (fun H locs hH hz hS => ?_)
    refine lv_goto (tgt := 38) hx hb dJ5_init_22 (by decide) ?_
    exact hJ_38 hp_29 nx_19 kc_20 ks_21 _ _ _ hw hl hH hz hS
theorem fk_J5_15 {ci : Nat} (h : ci ∈ [39]) : zFk "java/lang/AbstractStringBuilder" 15 ci 0 := by
  simp only [List.mem_cons, List.not_mem_nil, or_false] at h
  rcases h with rfl
  · exact ⟨RJ6, TJ6, 4, rfl, by decide, q373⟩
theorem fk_J5_22 {ci : Nat} (h : ci ∈ [39]) : zFk "java/lang/AbstractStringBuilder" 22 ci 1 := by
  simp only [List.mem_cons, List.not_mem_nil, or_false] at h
  rcases h with rfl
  · exact ⟨RJ6, TJ6, 4, rfl, by decide, q374⟩
def wp_J5_newCapacity (l : Launch) (g : zG) (d : Nat) (h0 : Nat) (x1 : Int32) (hp : zHp) (nx : Nat) (Post : Int32 → zHp → Nat → Prop) : Prop :=
  (zgR hp (some h0) [39] 0 fun r_4 =>
  (zln (g.2.1 2) hp r_4 fun x_7 =>
  (zgI hp (some h0) [39] 1 fun x_11 =>
  (∀ x_12 : Int32, x_12 = x1 <<< (x_11 &&& 31) →
  (∀ x_13 : Int32, x_13 = x_12 - x_7 →
  (zgI hp (some h0) [39] 1 fun x_17 =>
  (zMt l g yJ9_newLength cJ9_newLength 4 (some .int) d 0 0 [.int x_7, .int x_13, .int (x_7 + ((2 : Int32) <<< (x_17 &&& 31)))] hp nx (zQi g fun x_20 hp_18 nx_19 =>
  ((x_20 = (2147483647 : Int32) →
  False) ∧
  (¬ x_20 = (2147483647 : Int32) →
  (zgI hp_18 (some h0) [39] 1 fun x_24 =>
  (Post (x_20 >>> (x_24 &&& 31)) hp_18 nx_19))))))))))))
set_option maxHeartbeats 40000000 in
theorem met_J5_newCapacity {l : Launch} {g : zG} {d : Nat} {h0 : Nat} {x1 : Int32} {hp : zHp} {nx : Nat} {Post : Int32 → zHp → Nat → Prop} (hw : wp_J5_newCapacity l g d h0 x1 hp nx Post) : zMt l g yJ5_newCapacity cJ5_newCapacity 6 (some .int) (d + 1) 0 0 [.ref h0, .int x1] hp nx (zQi g Post) := by
  refine z_start (by decide) (Nat.le_of_ble_eq_true rfl) ?_
  intro p e s m below meth c hk hr hin hH hz ls hl
  have hx := hk.1.1
  have hb := hk.1.2.1
  have hown := hk.1.2.2.2.1
  have hts := hk.1.2.2.2.2
  have hS : va_S (zAd g) s.heap s.heap [] := va_S.rf
  have hl : lv_has ls 6 [(0, va_rf (some h0)), (1, .int x1)] := hl
  unfold wp_J5_newCapacity at hw
  refine zr_aload_n (r := some h0) hx hb dJ5_newCapacity_0 rfl (lv_at hl 0 rfl) ?_
  obtain ⟨a_1, ci_2, fs_3, r_4, er, he, hc, hv, hw⟩ := zgR_e hw
  refine zw_get hk hH er he hv (fk_J5_15 hc) dJ5_newCapacity_1 ?_
  obtain ⟨a_5, v_6, er, he, hw⟩ := zln_e hw
  refine zw_alen hk hH 2 er he rfl dJ5_newCapacity_4 ?_
  generalize Int32.ofNat v_6.1 = x_7 at hw ⊢
  refine lv_istore_n (i := 2) (lv' := [(2, .int x_7), (0, va_rf (some h0)), (1, .int x1)]) hx hb dJ5_newCapacity_5 rfl hl (by decide) (by first | rfl | simp [List.filter_cons, z_cat, z_catI, z_catJ, z_catF, z_catD]) (fun ls hl => ?_)
  refine lv_iload_n hx hb dJ5_newCapacity_6 rfl (lv_at hl 2 rfl) ?_
  refine zr_aload_n (r := some h0) hx hb dJ5_newCapacity_7 rfl (lv_at hl 1 rfl) ?_
  obtain ⟨a_8, ci_9, fs_10, x_11, er, he, hc, hv, hw⟩ := zgI_e hw
  refine zw_get hk hH er he hv (fk_J5_22 hc) dJ5_newCapacity_8 ?_
  refine lv_ishl hx hb dJ5_newCapacity_11 ?_
  refine lv_topi (fun x_12 ex_12 => ?_)
  have hw := hw x_12 ex_12
  refine lv_istore_n (i := 3) (lv' := [(3, .int x_12), (2, .int x_7), (0, va_rf (some h0)), (1, .int x1)]) hx hb dJ5_newCapacity_12 rfl hl (by decide) (by first | rfl | simp [List.filter_cons, z_cat, z_catI, z_catJ, z_catF, z_catD]) (fun ls hl => ?_)
  refine lv_iload_n hx hb dJ5_newCapacity_13 rfl (lv_at hl 0 rfl) ?_
  refine lv_iload_n hx hb dJ5_newCapacity_14 rfl (lv_at hl 1 rfl) ?_
  refine lv_isub hx hb dJ5_newCapacity_15 ?_
  refine lv_topi (fun x_13 ex_13 => ?_)
  have hw := hw x_13 ex_13
  refine lv_istore (lv' := [(4, .int x_13), (3, .int x_12), (2, .int x_7), (0, va_rf (some h0)), (1, .int x1)]) hx hb dJ5_newCapacity_16 hl (by decide) (by first | rfl | simp [List.filter_cons, z_cat, z_catI, z_catJ, z_catF, z_catD]) (fun ls hl => ?_)
  refine lv_iload_n hx hb dJ5_newCapacity_18 rfl (lv_at hl 2 rfl) ?_
  refine lv_iload hx hb dJ5_newCapacity_19 (lv_at hl 0 rfl) ?_
  refine lv_iload_n hx hb dJ5_newCapacity_21 rfl (lv_at hl 2 rfl) ?_
  refine lv_iconst (v := (2 : Int32)) hx hb dJ5_newCapacity_22 (by decide) ?_
  refine zr_aload_n (r := some h0) hx hb dJ5_newCapacity_23 rfl (lv_at hl 3 rfl) ?_
  obtain ⟨a_14, ci_15, fs_16, x_17, er, he, hc, hv, hw⟩ := zgI_e hw
  refine zw_get hk hH er he hv (fk_J5_22 hc) dJ5_newCapacity_24 ?_
  refine lv_ishl hx hb dJ5_newCapacity_27 ?_
  refine lv_iadd hx hb dJ5_newCapacity_28 ?_
  refine zr_calli (zr_runS (As := [.int x_7, .int x_13, .int (x_7 + ((2 : Int32) <<< (x_17 &&& 31)))]) hk hH hz hS hl.1 hw (va_cwS 3 hts (lw_S q406 q407 q142 q408) rfl rfl rfl (by decide +kernel) (z_room (Nat.le_of_ble_eq_true rfl))) rfl rfl (Nat.le_of_ble_eq_true rfl) dJ5_newCapacity_29 ⟨Nat.le_of_ble_eq_true rfl, Nat.le_of_ble_eq_true rfl⟩) hS (fun x_20 hp_18 nx_19 hw H locs hH hz hS => ?_)
  refine lv_istore (lv' := [(5, .int x_20), (4, .int x_13), (3, .int x_12), (2, .int x_7), (0, va_rf (some h0)), (1, .int x1)]) hx hb dJ5_newCapacity_32 hl (by decide) (by first | rfl | simp [List.filter_cons, z_cat, z_catI, z_catJ, z_catF, z_catD]) (fun ls hl => ?_)
  refine lv_iload hx hb dJ5_newCapacity_34 (lv_at hl 0 rfl) ?_
  refine lv_ldc hx hb hown (hts _ q416) dJ5_newCapacity_36 ?_
  refine lv_icmp_ne (tgt := 51) hx hb dJ5_newCapacity_38 (by decide) (fun hc => ?_) (fun hc => ?_)
  · have hw := hw.2 hc
    refine lv_iload hx hb dJ5_newCapacity_51 (lv_at hl 0 rfl) ?_
    refine zr_aload_n (r := some h0) hx hb dJ5_newCapacity_53 rfl (lv_at hl 4 rfl) ?_
    obtain ⟨a_21, ci_22, fs_23, x_24, er, he, hc, hv, hw⟩ := zgI_e hw
    refine zw_get hk hH er he hv (fk_J5_22 hc) dJ5_newCapacity_54 ?_
    refine lv_ishr hx hb dJ5_newCapacity_57 ?_
    exact zr_iret hk hr hH hz hS hw (Nat.le_of_ble_eq_true rfl) (Nat.le_of_ble_eq_true rfl) dJ5_newCapacity_58
  · have hw := hw.1 hc
    exact hw.elim
def wp_J5_isLatin1 (l : Launch) (g : zG) (d : Nat) (h0 : Nat) (hp : zHp) (nx : Nat) (Post : Int32 → zHp → Nat → Prop) : Prop :=
  (∃ P_18 : Int32 → Prop, (∀ (x_1 : Int32), P_18 x_1 →
  (((x_1 = 0 ∨ x_1 = 1) ∧ Post x_1 hp nx))) ∧
  (∃ P_17 : Prop, (P_17 →
  P_18 (0 : Int32)) ∧
  (((1 : Int32) = 0 →
  P_17) ∧
  (¬ (1 : Int32) = 0 →
  (zgI hp (some h0) [39] 1 fun x_5 =>
  ((x_5 = 0 →
  P_18 (1 : Int32)) ∧
  (¬ x_5 = 0 →
  P_17)))))))
set_option maxHeartbeats 40000000 in
theorem met_J5_isLatin1 {l : Launch} {g : zG} {d : Nat} {h0 : Nat} {hp : zHp} {nx : Nat} {Post : Int32 → zHp → Nat → Prop} (hw : wp_J5_isLatin1 l g d h0 hp nx Post) : zMt l g yJ5_isLatin1 cJ5_isLatin1 1 (some .boolean) (d + 1) 0 0 [.ref h0] hp nx (zQi g Post) := by
  refine z_start (by decide) (Nat.le_of_ble_eq_true rfl) ?_
  intro p e s m below meth c hk hr hin hH hz ls hl
  have hx := hk.1.1
  have hb := hk.1.2.1
  have hown := hk.1.2.2.2.1
  have hts := hk.1.2.2.2.2
  have hS : va_S (zAd g) s.heap s.heap [] := va_S.rf
  have hl : lv_has ls 1 [(0, va_rf (some h0))] := hl
  unfold wp_J5_isLatin1 at hw
  refine zw_gets hk hS 2 rfl q340 dJ5_isLatin1_0 ?_
  obtain ⟨P_18, hP_18, hw⟩ := hw
  have hJ_18 : ∀ (x_1 : Int32) (H : Heap) (locs : List Loc) (ls : Array Slot), P_18 x_1 → lv_has ls 1 [(0, va_rf (some h0))] → zHd g hp H → H.size = nx → va_S (zAd g) s.heap H locs → W p l e (zrm (d + 1) 0 0) s m ([.ref h0] : List Value).toArray below meth c H locs 0 0 (MQ below (zQi g Post) ([.ref h0] : List Value).toArray s 0 0 (zAd g)) (F0 m 18 ls [.int x_1]) := by
    intro x_1 H locs ls hw hl hH hz hS
    have hw := hP_18 x_1 hw
    exact zr_zret hk hr hH hz hS hw.1 hw.2 (Nat.le_of_ble_eq_true rfl) (Nat.le_of_ble_eq_true rfl) dJ5_isLatin1_18
  obtain ⟨P_17, hP_17, hw⟩ := hw
  have hJ_17 : ∀  (H : Heap) (locs : List Loc) (ls : Array Slot), P_17  → lv_has ls 1 [(0, va_rf (some h0))] → zHd g hp H → H.size = nx → va_S (zAd g) s.heap H locs → W p l e (zrm (d + 1) 0 0) s m ([.ref h0] : List Value).toArray below meth c H locs 0 0 (MQ below (zQi g Post) ([.ref h0] : List Value).toArray s 0 0 (zAd g)) (F0 m 17 ls []) := by
    intro  H locs ls hw hl hH hz hS
    have hw := hP_17  hw
    refine lv_iconst (v := (0 : Int32)) hx hb dJ5_isLatin1_17 (by decide) ?_
    exact hJ_18 (0 : Int32) _ _ _ hw hl hH hz hS
  refine lv_if_eq (tgt := 17) hx hb dJ5_isLatin1_3 (by decide) (fun hc => ?_) (fun hc => ?_)
  · have hw := hw.1 hc
    exact hJ_17  _ _ _ hw hl hH hz hS
  · have hw := hw.2 hc
    refine zr_aload_n (r := some h0) hx hb dJ5_isLatin1_6 rfl (lv_at hl 0 rfl) ?_
    obtain ⟨a_2, ci_3, fs_4, x_5, er, he, hc, hv, hw⟩ := zgI_e hw
    refine zw_get hk hH er he hv (fk_J5_22 hc) dJ5_isLatin1_7 ?_
    refine lv_if_ne (tgt := 17) hx hb dJ5_isLatin1_10 (by decide) (fun hc => ?_) (fun hc => ?_)
    · have hw := hw.2 hc
      exact hJ_17  _ _ _ hw hl hH hz hS
    · have hw := hw.1 hc
      refine lv_iconst (v := (1 : Int32)) hx hb dJ5_isLatin1_13 (by decide) ?_
      refine lv_goto (tgt := 18) hx hb dJ5_isLatin1_14 (by decide) ?_
      exact hJ_18 (1 : Int32) _ _ _ hw hl hH hz hS
theorem fk_J5_79 {ci : Nat} (h : ci ∈ [39]) : zFk "java/lang/AbstractStringBuilder" 79 ci 3 := by
  simp only [List.mem_cons, List.not_mem_nil, or_false] at h
  rcases h with rfl
  · exact ⟨RJ6, TJ6, 4, rfl, by decide, q376⟩
def wp_J5_inflate (l : Launch) (g : zG) (d : Nat) (mc ms : Nat) (h0 : Nat) (hp : zHp) (nx : Nat) (Post : zHp → Nat → Prop) : Prop :=
  (0 ≤ mc ∧ 0 ≤ ms ∧ zo hp (some h0) [39] fun a_34 ci_35 fs_36 => zMt l g yJ5_isLatin1 cJ5_isLatin1 1 (some .boolean) d 0 0 (.ref a_34 :: []) hp nx (zQi g fun x_3 hp_1 nx_2 =>
  ((x_3 = 0 →
  (0 ≤ mc ∧ 0 ≤ ms ∧ Post hp_1 nx_2)) ∧
  (¬ x_3 = 0 →
  (zgR hp_1 (some h0) [39] 0 fun r_7 =>
  (zln (g.2.1 2) hp_1 r_7 fun x_10 =>
  (∃ c_11 s_12 : Nat, 0 + c_11 ≤ mc ∧ 0 + s_12 ≤ ms ∧ zMt l g yJ8_newBytesFor cJ8_newBytesFor 1 (some (.array .byte)) d c_11 s_12 [.int x_10] hp_1 nx_2 (zQq g fun r_15 hp_13 nx_14 =>
  (zgR hp_13 (some h0) [39] 0 fun r_19 =>
  (zgI hp_13 (some h0) [39] 3 fun x_23 =>
  ((0 + c_11) ≤ mc ∧ (0 + s_12) ≤ ms ∧ zMt l g yJ13_inflate cJ13_inflate 5 none d 0 0 [va_rf r_19, .int (0 : Int32), va_rf r_15, .int (0 : Int32), .int x_23] hp_13 nx_14 (zQv g fun hp_24 nx_25 =>
  (zpt g hp_24 (some h0) [39] 0 (va_rf r_15) fun hp_29 =>
  ((narrow .byte (.int (1 : Int32)) = .int (1 : Int32) ∧ fits .byte (.int (1 : Int32)) = true) ∧ zpt g hp_29 (some h0) [39] 1 (.int (1 : Int32)) fun hp_33 =>
  ((0 + c_11) ≤ mc ∧ (0 + s_12) ≤ ms ∧ Post hp_33 nx_25)))))))))))))))
set_option maxHeartbeats 40000000 in
theorem met_J5_inflate {l : Launch} {g : zG} {d : Nat} {mc ms : Nat} {h0 : Nat} {hp : zHp} {nx : Nat} {Post : zHp → Nat → Prop} (hw : wp_J5_inflate l g d mc ms h0 hp nx Post) : zMt l g yJ5_inflate cJ5_inflate 2 none (d + 1) mc ms [.ref h0] hp nx (zQv g Post) := by
  refine z_start (by decide) (Nat.le_of_ble_eq_true rfl) ?_
  intro p e s m below meth c hk hr hin hH hz ls hl
  have hx := hk.1.1
  have hb := hk.1.2.1
  have hown := hk.1.2.2.2.1
  have hts := hk.1.2.2.2.2
  have hS : va_S (zAd g) s.heap s.heap [] := va_S.rf
  have hl : lv_has ls 2 [(0, va_rf (some h0))] := hl
  unfold wp_J5_inflate at hw
  refine zr_aload_n (r := some h0) hx hb dJ5_inflate_0 rfl (lv_at hl 0 rfl) ?_
  obtain ⟨hcl, hsl, hw⟩ := hw
  obtain ⟨a_34, ci_35, fs_36, er, he, hc, hw⟩ := zo_e hw
  obtain rfl := List.mem_singleton.mp hc
  refine zr_calli (zw_runU (As := []) hk hH hz hS hl.1 er hw (va_cwU 0 hts (z_U q433 q435 q436 q434 q138 q437) rfl rfl rfl rfl (by decide +kernel) (z_room (Nat.le_of_ble_eq_true rfl))) he rfl rfl rfl (Nat.le_of_ble_eq_true rfl) dJ5_inflate_1 ⟨hcl, hsl⟩) hS (fun x_3 hp_1 nx_2 hw H locs hH hz hS => ?_)
  refine lv_if_ne (tgt := 8) hx hb dJ5_inflate_4 (by decide) (fun hc => ?_) (fun hc => ?_)
  · have hw := hw.2 hc
    refine zr_aload_n (r := some h0) hx hb dJ5_inflate_8 rfl (lv_at hl 0 rfl) ?_
    obtain ⟨a_4, ci_5, fs_6, r_7, er, he, hc, hv, hw⟩ := zgR_e hw
    refine zw_get hk hH er he hv (fk_J5_15 hc) dJ5_inflate_9 ?_
    obtain ⟨a_8, v_9, er, he, hw⟩ := zln_e hw
    refine zw_alen hk hH 2 er he rfl dJ5_inflate_12 ?_
    generalize Int32.ofNat v_9.1 = x_10 at hw ⊢
    obtain ⟨c_11, s_12, hcl, hsl, hw⟩ := hw
    refine zr_callq (zr_runS (As := [.int x_10]) hk hH hz hS hl.1 hw (va_cwS 1 hts (lw_S q342 q343 q141 q344) rfl rfl rfl (by decide +kernel) (z_room (Nat.le_of_ble_eq_true rfl))) rfl rfl (Nat.le_of_ble_eq_true rfl) dJ5_inflate_13 ⟨hcl, hsl⟩) hS (fun r_15 hp_13 nx_14 hw H locs hH hz hS => ?_)
    refine zr_astore_n (r := r_15) (i := 1) (lv' := [(1, va_rf r_15), (0, va_rf (some h0))]) hx hb dJ5_inflate_16 rfl hl (by decide) (by first | rfl | simp [List.filter_cons, z_cat, z_catI, z_catJ, z_catF, z_catD]) (fun ls hl => ?_)
    refine zr_aload_n (r := some h0) hx hb dJ5_inflate_17 rfl (lv_at hl 1 rfl) ?_
    obtain ⟨a_16, ci_17, fs_18, r_19, er, he, hc, hv, hw⟩ := zgR_e hw
    refine zw_get hk hH er he hv (fk_J5_15 hc) dJ5_inflate_18 ?_
    refine lv_iconst (v := (0 : Int32)) hx hb dJ5_inflate_21 (by decide) ?_
    refine zr_aload_n (r := r_15) hx hb dJ5_inflate_22 rfl (lv_at hl 0 rfl) ?_
    refine lv_iconst (v := (0 : Int32)) hx hb dJ5_inflate_23 (by decide) ?_
    refine zr_aload_n (r := some h0) hx hb dJ5_inflate_24 rfl (lv_at hl 1 rfl) ?_
    obtain ⟨a_20, ci_21, fs_22, x_23, er, he, hc, hv, hw⟩ := zgI_e hw
    refine zw_get hk hH er he hv (fk_J5_79 hc) dJ5_inflate_25 ?_
    obtain ⟨hcl, hsl, hw⟩ := hw
    refine zr_callv (zr_runS (As := [va_rf r_19, .int (0 : Int32), va_rf r_15, .int (0 : Int32), .int x_23]) hk hH hz hS hl.1 hw (va_cwS 5 hts (lw_S q486 q487 q147 q488) rfl rfl rfl (by decide +kernel) (z_room (Nat.le_of_ble_eq_true rfl))) rfl rfl (Nat.le_of_ble_eq_true rfl) dJ5_inflate_28 ⟨hcl, hsl⟩) hS (fun hp_24 nx_25 hw H locs hH hz hS => ?_)
    refine zr_aload_n (r := some h0) hx hb dJ5_inflate_31 rfl (lv_at hl 1 rfl) ?_
    refine zr_aload_n (r := r_15) hx hb dJ5_inflate_32 rfl (lv_at hl 0 rfl) ?_
    obtain ⟨a_26, ci_27, fs_28, hp_29, er, he, hc, hA, hkl, eh, hw⟩ := zpt_e hw
    refine zw_put hk hH hz hS er he hA hkl eh (fp_J5_15 hc) (z_narA _ _) (z_fitA _ _) dJ5_inflate_33 (fun H locs hH hz hS => ?_)
    refine zr_aload_n (r := some h0) hx hb dJ5_inflate_36 rfl (lv_at hl 1 rfl) ?_
    refine lv_iconst (v := (1 : Int32)) hx hb dJ5_inflate_37 (by decide) ?_
    obtain ⟨hbo, hw⟩ := hw
    obtain ⟨a_30, ci_31, fs_32, hp_33, er, he, hc, hA, hkl, eh, hw⟩ := zpt_e hw
    refine zw_put hk hH hz hS er he hA hkl eh (fp_J5_22 hc) hbo.1 hbo.2 dJ5_inflate_38 (fun H locs hH hz hS => ?_)
    obtain ⟨hkc, hks, hw⟩ := hw
    exact zr_vret hk hr hH hz hS hw hkc hks dJ5_inflate_41
  · have hw := hw.1 hc
    obtain ⟨hkc, hks, hw⟩ := hw
    exact zr_vret hk hr hH hz hS hw hkc hks dJ5_inflate_7
def wp_J5_getValue (l : Launch) (g : zG) (d : Nat) (h0 : Nat) (hp : zHp) (nx : Nat) (Post : Option Nat → zHp → Nat → Prop) : Prop :=
  (zgR hp (some h0) [39] 0 fun r_4 =>
  (Post r_4 hp nx))
set_option maxHeartbeats 40000000 in
theorem met_J5_getValue {l : Launch} {g : zG} {d : Nat} {h0 : Nat} {hp : zHp} {nx : Nat} {Post : Option Nat → zHp → Nat → Prop} (hw : wp_J5_getValue l g d h0 hp nx Post) : zMt l g yJ5_getValue cJ5_getValue 1 (some (.array .byte)) (d + 1) 0 0 [.ref h0] hp nx (zQq g Post) := by
  refine z_start (by decide) (Nat.le_of_ble_eq_true rfl) ?_
  intro p e s m below meth c hk hr hin hH hz ls hl
  have hx := hk.1.1
  have hb := hk.1.2.1
  have hown := hk.1.2.2.2.1
  have hts := hk.1.2.2.2.2
  have hS : va_S (zAd g) s.heap s.heap [] := va_S.rf
  have hl : lv_has ls 1 [(0, va_rf (some h0))] := hl
  unfold wp_J5_getValue at hw
  refine zr_aload_n (r := some h0) hx hb dJ5_getValue_0 rfl (lv_at hl 0 rfl) ?_
  obtain ⟨a_1, ci_2, fs_3, r_4, er, he, hc, hv, hw⟩ := zgR_e hw
  refine zw_get hk hH er he hv (fk_J5_15 hc) dJ5_getValue_1 ?_
  exact zr_aret (r := r_4) hk hr (Or.inr ⟨_, rfl⟩) hH hz hS hw (Nat.le_of_ble_eq_true rfl) (Nat.le_of_ble_eq_true rfl) dJ5_getValue_4
def wp_J5_length (l : Launch) (g : zG) (d : Nat) (h0 : Nat) (hp : zHp) (nx : Nat) (Post : Int32 → zHp → Nat → Prop) : Prop :=
  (zgI hp (some h0) [39] 3 fun x_4 =>
  (Post x_4 hp nx))
set_option maxHeartbeats 40000000 in
theorem met_J5_length {l : Launch} {g : zG} {d : Nat} {h0 : Nat} {hp : zHp} {nx : Nat} {Post : Int32 → zHp → Nat → Prop} (hw : wp_J5_length l g d h0 hp nx Post) : zMt l g yJ5_length cJ5_length 1 (some .int) (d + 1) 0 0 [.ref h0] hp nx (zQi g Post) := by
  refine z_start (by decide) (Nat.le_of_ble_eq_true rfl) ?_
  intro p e s m below meth c hk hr hin hH hz ls hl
  have hx := hk.1.1
  have hb := hk.1.2.1
  have hown := hk.1.2.2.2.1
  have hts := hk.1.2.2.2.2
  have hS : va_S (zAd g) s.heap s.heap [] := va_S.rf
  have hl : lv_has ls 1 [(0, va_rf (some h0))] := hl
  unfold wp_J5_length at hw
  refine zr_aload_n (r := some h0) hx hb dJ5_length_0 rfl (lv_at hl 0 rfl) ?_
  obtain ⟨a_1, ci_2, fs_3, x_4, er, he, hc, hv, hw⟩ := zgI_e hw
  refine zw_get hk hH er he hv (fk_J5_79 hc) dJ5_length_1 ?_
  exact zr_iret hk hr hH hz hS hw (Nat.le_of_ble_eq_true rfl) (Nat.le_of_ble_eq_true rfl) dJ5_length_4
def wp_J6_init (l : Launch) (g : zG) (d : Nat) (mc ms : Nat) (h0 : Nat) (hp : zHp) (nx : Nat) (Post : zHp → Nat → Prop) : Prop :=
  (∃ c_1 s_2 : Nat, 0 + c_1 ≤ mc ∧ 0 + s_2 ≤ ms ∧ zMt l g yJ5_init cJ5_init 2 none d c_1 s_2 (.ref h0 :: [.int (16 : Int32)]) hp nx (zQv g fun hp_3 nx_4 =>
  ((0 + c_1) ≤ mc ∧ (0 + s_2) ≤ ms ∧ Post hp_3 nx_4)))
set_option maxHeartbeats 40000000 in
theorem met_J6_init {l : Launch} {g : zG} {d : Nat} {mc ms : Nat} {h0 : Nat} {hp : zHp} {nx : Nat} {Post : zHp → Nat → Prop} (hw : wp_J6_init l g d mc ms h0 hp nx Post) : zMt l g yJ6_init cJ6_init 1 none (d + 1) mc ms [.ref h0] hp nx (zQv g Post) := by
  refine z_start (by decide) (Nat.le_of_ble_eq_true rfl) ?_
  intro p e s m below meth c hk hr hin hH hz ls hl
  have hx := hk.1.1
  have hb := hk.1.2.1
  have hown := hk.1.2.2.2.1
  have hts := hk.1.2.2.2.2
  have hS : va_S (zAd g) s.heap s.heap [] := va_S.rf
  have hl : lv_has ls 1 [(0, va_rf (some h0))] := hl
  unfold wp_J6_init at hw
  refine zr_aload_n (r := some h0) hx hb dJ6_init_0 rfl (lv_at hl 0 rfl) ?_
  refine lv_bipush (v := (16 : Int32)) hx hb dJ6_init_1 (by decide) ?_
  obtain ⟨c_1, s_2, hcl, hsl, hw⟩ := hw
  refine zr_callv (zw_runI (As := [.int (16 : Int32)]) (r := some h0) hk hH hz hS hl.1 rfl hw (cwI 1 hts (lw_meth q338) rfl rfl rfl (hts _ q138) (hts _ q336) (hts _ q337) rfl (by decide +kernel) (z_room (Nat.le_of_ble_eq_true rfl))) rfl rfl (Nat.le_of_ble_eq_true rfl) dJ6_init_3 ⟨hcl, hsl⟩) hS (fun hp_3 nx_4 hw H locs hH hz hS => ?_)
  obtain ⟨hkc, hks, hw⟩ := hw
  exact zr_vret hk hr hH hz hS hw hkc hks dJ6_init_6
theorem cz_39 {ci : Nat} (h : ci ∈ [39]) : ∃ (C : String) (T : u_T) (N : Nat), zcl[ci]? = some (C, T, N) := by
  simp only [List.mem_cons, List.not_mem_nil, or_false] at h
  rcases h with rfl <;> exact ⟨_, _, _, rfl⟩
def wp_J6_append (l : Launch) (g : zG) (d : Nat) (mc ms : Nat) (h0 : Nat) (r1 : Option Nat) (hp : zHp) (nx : Nat) (Post : Option Nat → zHp → Nat → Prop) : Prop :=
  (∃ c_1 s_2 : Nat, 0 + c_1 ≤ mc ∧ 0 + s_2 ≤ ms ∧ zo hp (some h0) [39] fun a_6 ci_7 fs_8 => zMt l g yJ5_append cJ5_append 3 (some (.object "java/lang/AbstractStringBuilder")) d c_1 s_2 (.ref a_6 :: [va_rf r1]) hp nx (zQq g fun r_5 hp_3 nx_4 =>
  ((0 + c_1) ≤ mc ∧ (0 + s_2) ≤ ms ∧ Post (some h0) hp_3 nx_4)))
set_option maxHeartbeats 40000000 in
theorem met_J6_append {l : Launch} {g : zG} {d : Nat} {mc ms : Nat} {h0 : Nat} {r1 : Option Nat} {hp : zHp} {nx : Nat} {Post : Option Nat → zHp → Nat → Prop} (hw : wp_J6_append l g d mc ms h0 r1 hp nx Post) : zMt l g yJ6_append cJ6_append 2 (some (.object "java/lang/StringBuilder")) (d + 1) mc ms [.ref h0, va_rf r1] hp nx (zQq g Post) := by
  refine z_start (by decide) (by cases r1 <;> exact Nat.le_of_ble_eq_true rfl) ?_
  intro p e s m below meth c hk hr hin hH hz ls hl
  have hx := hk.1.1
  have hb := hk.1.2.1
  have hown := hk.1.2.2.2.1
  have hts := hk.1.2.2.2.2
  have hS : va_S (zAd g) s.heap s.heap [] := va_S.rf
  have hl : lv_has ls 2 [(0, va_rf (some h0)), (1, va_rf r1)] := by cases r1 <;> exact hl
  unfold wp_J6_append at hw
  refine zr_aload_n (r := some h0) hx hb dJ6_append_0 rfl (lv_at hl 0 rfl) ?_
  refine zr_aload_n (r := r1) hx hb dJ6_append_1 rfl (lv_at hl 1 rfl) ?_
  obtain ⟨c_1, s_2, hcl, hsl, hw⟩ := hw
  obtain ⟨a_6, ci_7, fs_8, er, he, hc, hw⟩ := zo_e hw
  obtain ⟨C_, T_, N_, hcl_⟩ := cz_39 hc
  refine zr_callq (zw_runSU (C := C_) (As := [va_rf r1]) hk hH hz hS hl.1 er hw (va_cwSU 1 hts (z_SU q391 q3347 q385 q392 q138 q393) rfl rfl rfl (by decide +kernel) (z_room (Nat.le_of_ble_eq_true rfl))) he hcl_ rfl rfl (Nat.le_of_ble_eq_true rfl) dJ6_append_2 ⟨hcl, hsl⟩) hS (fun r_5 hp_3 nx_4 hw H locs hH hz hS => ?_)
  refine lv_pop hx hb dJ6_append_5 (z_cat _) ?_
  refine zr_aload_n (r := some h0) hx hb dJ6_append_6 rfl (lv_at hl 0 rfl) ?_
  obtain ⟨hkc, hks, hw⟩ := hw
  exact zr_aret (r := some h0) hk hr (Or.inl ⟨_, rfl⟩) hH hz hS hw hkc hks dJ6_append_7
def wp_J6_append_2 (l : Launch) (g : zG) (d : Nat) (mc ms : Nat) (h0 : Nat) (x1 : Int32) (hp : zHp) (nx : Nat) (Post : Option Nat → zHp → Nat → Prop) : Prop :=
  (∃ c_1 s_2 : Nat, 0 + c_1 ≤ mc ∧ 0 + s_2 ≤ ms ∧ zo hp (some h0) [39] fun a_6 ci_7 fs_8 => zMt l g yJ5_append_2 cJ5_append_2 4 (some (.object "java/lang/AbstractStringBuilder")) d c_1 s_2 (.ref a_6 :: [.int x1]) hp nx (zQq g fun r_5 hp_3 nx_4 =>
  ((0 + c_1) ≤ mc ∧ (0 + s_2) ≤ ms ∧ Post (some h0) hp_3 nx_4)))
set_option maxHeartbeats 40000000 in
theorem met_J6_append_2 {l : Launch} {g : zG} {d : Nat} {mc ms : Nat} {h0 : Nat} {x1 : Int32} {hp : zHp} {nx : Nat} {Post : Option Nat → zHp → Nat → Prop} (hw : wp_J6_append_2 l g d mc ms h0 x1 hp nx Post) : zMt l g yJ6_append_2 cJ6_append_2 2 (some (.object "java/lang/StringBuilder")) (d + 1) mc ms [.ref h0, .int x1] hp nx (zQq g Post) := by
  refine z_start (by decide) (Nat.le_of_ble_eq_true rfl) ?_
  intro p e s m below meth c hk hr hin hH hz ls hl
  have hx := hk.1.1
  have hb := hk.1.2.1
  have hown := hk.1.2.2.2.1
  have hts := hk.1.2.2.2.2
  have hS : va_S (zAd g) s.heap s.heap [] := va_S.rf
  have hl : lv_has ls 2 [(0, va_rf (some h0)), (1, .int x1)] := hl
  unfold wp_J6_append_2 at hw
  refine zr_aload_n (r := some h0) hx hb dJ6_append_2_0 rfl (lv_at hl 0 rfl) ?_
  refine lv_iload_n hx hb dJ6_append_2_1 rfl (lv_at hl 1 rfl) ?_
  obtain ⟨c_1, s_2, hcl, hsl, hw⟩ := hw
  obtain ⟨a_6, ci_7, fs_8, er, he, hc, hw⟩ := zo_e hw
  obtain ⟨C_, T_, N_, hcl_⟩ := cz_39 hc
  refine zr_callq (zw_runSU (C := C_) (As := [.int x1]) hk hH hz hS hl.1 er hw (va_cwSU 1 hts (z_SU q511 q3354 q385 q512 q138 q513) rfl rfl rfl (by decide +kernel) (z_room (Nat.le_of_ble_eq_true rfl))) he hcl_ rfl rfl (Nat.le_of_ble_eq_true rfl) dJ6_append_2_2 ⟨hcl, hsl⟩) hS (fun r_5 hp_3 nx_4 hw H locs hH hz hS => ?_)
  refine lv_pop hx hb dJ6_append_2_5 (z_cat _) ?_
  refine zr_aload_n (r := some h0) hx hb dJ6_append_2_6 rfl (lv_at hl 0 rfl) ?_
  obtain ⟨hkc, hks, hw⟩ := hw
  exact zr_aret (r := some h0) hk hr (Or.inl ⟨_, rfl⟩) hH hz hS hw hkc hks dJ6_append_2_7
theorem no_J6_18 : zNo "java/lang/StringBuilder" 18 40 := ⟨RJ7, TJ7, 4, rfl, q536, q537, q140⟩
def wp_J6_toString (l : Launch) (g : zG) (d : Nat) (mc ms : Nat) (h0 : Nat) (hp : zHp) (nx : Nat) (Post : Option Nat → zHp → Nat → Prop) : Prop :=
  (znw g mc ms hp nx 0 0 40 fun hp_1 =>
  ∀ nx_2 kc_3 ks_4 : Nat, nx_2 = (nx + 1) → kc_3 = (0 + 1) → ks_4 = (0 + zNn 40) →
  (∃ c_5 s_6 : Nat, kc_3 + c_5 ≤ mc ∧ ks_4 + s_6 ≤ ms ∧ zMt l g yJ7_init cJ7_init 2 none d c_5 s_6 (.ref nx :: [va_rf (some h0)]) hp_1 nx_2 (zQv g fun hp_7 nx_8 =>
  ((kc_3 + c_5) ≤ mc ∧ (ks_4 + s_6) ≤ ms ∧ Post (some nx) hp_7 nx_8))))
set_option maxHeartbeats 40000000 in
theorem met_J6_toString {l : Launch} {g : zG} {d : Nat} {mc ms : Nat} {h0 : Nat} {hp : zHp} {nx : Nat} {Post : Option Nat → zHp → Nat → Prop} (hw : wp_J6_toString l g d mc ms h0 hp nx Post) : zMt l g yJ6_toString cJ6_toString 1 (some (.object "java/lang/String")) (d + 1) mc ms [.ref h0] hp nx (zQq g Post) := by
  refine z_start (by decide) (Nat.le_of_ble_eq_true rfl) ?_
  intro p e s m below meth c hk hr hin hH hz ls hl
  have hx := hk.1.1
  have hb := hk.1.2.1
  have hown := hk.1.2.2.2.1
  have hts := hk.1.2.2.2.2
  have hS : va_S (zAd g) s.heap s.heap [] := va_S.rf
  have hl : lv_has ls 1 [(0, va_rf (some h0))] := hl
  unfold wp_J6_toString at hw
  obtain ⟨hcl, hsl, hw⟩ := hw
  refine zx_new hk hH hz hS (ci := 40) no_J6_18 hcl hsl dJ6_toString_0 (fun H hH hz hS hlt hnb => ?_)
  have hw := hw hlt hnb
  generalize va_up hp nx _ = hp_1 at hH hw
  obtain ⟨kc_3, ekc⟩ : ∃ k, k = (0 + 1) := ⟨_, rfl⟩
  obtain ⟨ks_4, eks⟩ : ∃ k, k = (0 + zNn 40) := ⟨_, rfl⟩
  have hw := hw _ _ _ rfl ekc eks
  refine W.widen (Nat.le_of_eq ekc.symm) (Nat.le_of_eq eks.symm) ?_
  clear ekc eks
  generalize (nx + 1) = nx_2 at hz hw
  refine lv_dup hx hb dJ6_toString_3 (z_cat _) ?_
  refine zr_aload_n (r := some h0) hx hb dJ6_toString_4 rfl (lv_at hl 0 rfl) ?_
  obtain ⟨c_5, s_6, hcl, hsl, hw⟩ := hw
  refine zr_callv (zw_runI (As := [va_rf (some h0)]) (r := some nx) hk hH hz hS hl.1 rfl hw (cwI 1 hts (lw_meth q540) rfl rfl rfl (hts _ q140) (hts _ q538) (hts _ q539) rfl (by decide +kernel) (z_room (Nat.le_of_ble_eq_true rfl))) rfl rfl (by simp only [List.map_cons, List.map_nil, z_cat]; exact Nat.le_of_ble_eq_true rfl) dJ6_toString_5 ⟨hcl, hsl⟩) hS (fun hp_7 nx_8 hw H locs hH hz hS => ?_)
  obtain ⟨hkc, hks, hw⟩ := hw
  exact zr_aret (r := some nx) hk hr (Or.inl ⟨_, rfl⟩) hH hz hS hw hkc hks dJ6_toString_8
def wp_J6_length (l : Launch) (g : zG) (d : Nat) (h0 : Nat) (hp : zHp) (nx : Nat) (Post : Int32 → zHp → Nat → Prop) : Prop :=
  (zo hp (some h0) [39] fun a_4 ci_5 fs_6 => zMt l g yJ5_length cJ5_length 1 (some .int) d 0 0 (.ref a_4 :: []) hp nx (zQi g fun x_3 hp_1 nx_2 =>
  (Post x_3 hp_1 nx_2)))
set_option maxHeartbeats 40000000 in
theorem met_J6_length {l : Launch} {g : zG} {d : Nat} {h0 : Nat} {hp : zHp} {nx : Nat} {Post : Int32 → zHp → Nat → Prop} (hw : wp_J6_length l g d h0 hp nx Post) : zMt l g yJ6_length cJ6_length 1 (some .int) (d + 1) 0 0 [.ref h0] hp nx (zQi g Post) := by
  refine z_start (by decide) (Nat.le_of_ble_eq_true rfl) ?_
  intro p e s m below meth c hk hr hin hH hz ls hl
  have hx := hk.1.1
  have hb := hk.1.2.1
  have hown := hk.1.2.2.2.1
  have hts := hk.1.2.2.2.2
  have hS : va_S (zAd g) s.heap s.heap [] := va_S.rf
  have hl : lv_has ls 1 [(0, va_rf (some h0))] := hl
  unfold wp_J6_length at hw
  refine zr_aload_n (r := some h0) hx hb dJ6_length_0 rfl (lv_at hl 0 rfl) ?_
  obtain ⟨a_4, ci_5, fs_6, er, he, hc, hw⟩ := zo_e hw
  obtain ⟨C_, T_, N_, hcl_⟩ := cz_39 hc
  refine zr_calli (zw_runSU (C := C_) (As := []) hk hH hz hS hl.1 er hw (va_cwSU 0 hts (z_SU q556 q552 q385 q551 q138 q557) rfl rfl rfl (by decide +kernel) (z_room (Nat.le_of_ble_eq_true rfl))) he hcl_ rfl rfl (Nat.le_of_ble_eq_true rfl) dJ6_length_1 ⟨Nat.le_of_ble_eq_true rfl, Nat.le_of_ble_eq_true rfl⟩) hS (fun x_3 hp_1 nx_2 hw H locs hH hz hS => ?_)
  exact zr_iret hk hr hH hz hS hw (Nat.le_of_ble_eq_true rfl) (Nat.le_of_ble_eq_true rfl) dJ6_length_4
def wp_J6_init_2 (l : Launch) (g : zG) (d : Nat) (mc ms : Nat) (h0 : Nat) (x1 : Int32) (hp : zHp) (nx : Nat) (Post : zHp → Nat → Prop) : Prop :=
  (∃ c_1 s_2 : Nat, 0 + c_1 ≤ mc ∧ 0 + s_2 ≤ ms ∧ zMt l g yJ5_init cJ5_init 2 none d c_1 s_2 (.ref h0 :: [.int x1]) hp nx (zQv g fun hp_3 nx_4 =>
  ((0 + c_1) ≤ mc ∧ (0 + s_2) ≤ ms ∧ Post hp_3 nx_4)))
set_option maxHeartbeats 40000000 in
theorem met_J6_init_2 {l : Launch} {g : zG} {d : Nat} {mc ms : Nat} {h0 : Nat} {x1 : Int32} {hp : zHp} {nx : Nat} {Post : zHp → Nat → Prop} (hw : wp_J6_init_2 l g d mc ms h0 x1 hp nx Post) : zMt l g yJ6_init_2 cJ6_init_2 2 none (d + 1) mc ms [.ref h0, .int x1] hp nx (zQv g Post) := by
  refine z_start (by decide) (Nat.le_of_ble_eq_true rfl) ?_
  intro p e s m below meth c hk hr hin hH hz ls hl
  have hx := hk.1.1
  have hb := hk.1.2.1
  have hown := hk.1.2.2.2.1
  have hts := hk.1.2.2.2.2
  have hS : va_S (zAd g) s.heap s.heap [] := va_S.rf
  have hl : lv_has ls 2 [(0, va_rf (some h0)), (1, .int x1)] := hl
  unfold wp_J6_init_2 at hw
  refine zr_aload_n (r := some h0) hx hb dJ6_init_2_0 rfl (lv_at hl 0 rfl) ?_
  refine lv_iload_n hx hb dJ6_init_2_1 rfl (lv_at hl 1 rfl) ?_
  obtain ⟨c_1, s_2, hcl, hsl, hw⟩ := hw
  refine zr_callv (zw_runI (As := [.int x1]) (r := some h0) hk hH hz hS hl.1 rfl hw (cwI 1 hts (lw_meth q338) rfl rfl rfl (hts _ q138) (hts _ q336) (hts _ q337) rfl (by decide +kernel) (z_room (Nat.le_of_ble_eq_true rfl))) rfl rfl (Nat.le_of_ble_eq_true rfl) dJ6_init_2_2 ⟨hcl, hsl⟩) hS (fun hp_3 nx_4 hw H locs hH hz hS => ?_)
  obtain ⟨hkc, hks, hw⟩ := hw
  exact zr_vret hk hr hH hz hS hw hkc hks dJ6_init_2_5
def wp_J6_append_3 (l : Launch) (g : zG) (d : Nat) (mc ms : Nat) (h0 : Nat) (x1 : Int32) (hp : zHp) (nx : Nat) (Post : Option Nat → zHp → Nat → Prop) : Prop :=
  (∃ c_1 s_2 : Nat, 0 + c_1 ≤ mc ∧ 0 + s_2 ≤ ms ∧ zo hp (some h0) [39] fun a_6 ci_7 fs_8 => zMt l g yJ5_append_3 cJ5_append_3 2 (some (.object "java/lang/AbstractStringBuilder")) d c_1 s_2 (.ref a_6 :: [.int x1]) hp nx (zQq g fun r_5 hp_3 nx_4 =>
  ((0 + c_1) ≤ mc ∧ (0 + s_2) ≤ ms ∧ Post (some h0) hp_3 nx_4)))
set_option maxHeartbeats 40000000 in
theorem met_J6_append_3 {l : Launch} {g : zG} {d : Nat} {mc ms : Nat} {h0 : Nat} {x1 : Int32} {hp : zHp} {nx : Nat} {Post : Option Nat → zHp → Nat → Prop} (hw : wp_J6_append_3 l g d mc ms h0 x1 hp nx Post) : zMt l g yJ6_append_3 cJ6_append_3 2 (some (.object "java/lang/StringBuilder")) (d + 1) mc ms [.ref h0, .int x1] hp nx (zQq g Post) := by
  refine z_start (by decide) (Nat.le_of_ble_eq_true rfl) ?_
  intro p e s m below meth c hk hr hin hH hz ls hl
  have hx := hk.1.1
  have hb := hk.1.2.1
  have hown := hk.1.2.2.2.1
  have hts := hk.1.2.2.2.2
  have hS : va_S (zAd g) s.heap s.heap [] := va_S.rf
  have hl : lv_has ls 2 [(0, va_rf (some h0)), (1, .int x1)] := hl
  unfold wp_J6_append_3 at hw
  refine zr_aload_n (r := some h0) hx hb dJ6_append_3_0 rfl (lv_at hl 0 rfl) ?_
  refine lv_iload_n hx hb dJ6_append_3_1 rfl (lv_at hl 1 rfl) ?_
  obtain ⟨c_1, s_2, hcl, hsl, hw⟩ := hw
  obtain ⟨a_6, ci_7, fs_8, er, he, hc, hw⟩ := zo_e hw
  obtain ⟨C_, T_, N_, hcl_⟩ := cz_39 hc
  refine zr_callq (zw_runSU (C := C_) (As := [.int x1]) hk hH hz hS hl.1 er hw (va_cwSU 1 hts (z_SU q1417 q3357 q385 q1418 q138 q1419) rfl rfl rfl (by decide +kernel) (z_room (Nat.le_of_ble_eq_true rfl))) he hcl_ rfl rfl (Nat.le_of_ble_eq_true rfl) dJ6_append_3_2 ⟨hcl, hsl⟩) hS (fun r_5 hp_3 nx_4 hw H locs hH hz hS => ?_)
  refine lv_pop hx hb dJ6_append_3_5 (z_cat _) ?_
  refine zr_aload_n (r := some h0) hx hb dJ6_append_3_6 rfl (lv_at hl 0 rfl) ?_
  obtain ⟨hkc, hks, hw⟩ := hw
  exact zr_aret (r := some h0) hk hr (Or.inl ⟨_, rfl⟩) hH hz hS hw hkc hks dJ6_append_3_7
theorem fk_J7_9 {ci : Nat} (h : ci ∈ [40]) : zFk "java/lang/String" 9 ci 0 := by
  simp only [List.mem_cons, List.not_mem_nil, or_false] at h
  rcases h with rfl
  · exact ⟨RJ7, TJ7, 4, rfl, by decide, q581⟩
def wp_J7_length (l : Launch) (g : zG) (d : Nat) (h0 : Nat) (hp : zHp) (nx : Nat) (Post : Int32 → zHp → Nat → Prop) : Prop :=
  (zgR hp (some h0) [40] 0 fun r_4 =>
  (zln (g.2.1 2) hp r_4 fun x_7 =>
  (zo hp (some h0) [40] fun a_11 ci_12 fs_13 => zMt l g yJ7_coder cJ7_coder 1 (some .byte) d 0 0 (.ref a_11 :: []) hp nx (zQi g fun x_10 hp_8 nx_9 =>
  (Post (x_7 >>> (x_10 &&& 31)) hp_8 nx_9)))))
set_option maxHeartbeats 40000000 in
theorem met_J7_length {l : Launch} {g : zG} {d : Nat} {h0 : Nat} {hp : zHp} {nx : Nat} {Post : Int32 → zHp → Nat → Prop} (hw : wp_J7_length l g d h0 hp nx Post) : zMt l g yJ7_length cJ7_length 1 (some .int) (d + 1) 0 0 [.ref h0] hp nx (zQi g Post) := by
  refine z_start (by decide) (Nat.le_of_ble_eq_true rfl) ?_
  intro p e s m below meth c hk hr hin hH hz ls hl
  have hx := hk.1.1
  have hb := hk.1.2.1
  have hown := hk.1.2.2.2.1
  have hts := hk.1.2.2.2.2
  have hS : va_S (zAd g) s.heap s.heap [] := va_S.rf
  have hl : lv_has ls 1 [(0, va_rf (some h0))] := hl
  unfold wp_J7_length at hw
  refine zr_aload_n (r := some h0) hx hb dJ7_length_0 rfl (lv_at hl 0 rfl) ?_
  obtain ⟨a_1, ci_2, fs_3, r_4, er, he, hc, hv, hw⟩ := zgR_e hw
  refine zw_get hk hH er he hv (fk_J7_9 hc) dJ7_length_1 ?_
  obtain ⟨a_5, v_6, er, he, hw⟩ := zln_e hw
  refine zw_alen hk hH 2 er he rfl dJ7_length_4 ?_
  generalize Int32.ofNat v_6.1 = x_7 at hw ⊢
  refine zr_aload_n (r := some h0) hx hb dJ7_length_5 rfl (lv_at hl 0 rfl) ?_
  obtain ⟨a_11, ci_12, fs_13, er, he, hc, hw⟩ := zo_e hw
  obtain rfl := List.mem_singleton.mp hc
  refine zr_calli (zw_runV (As := []) hk hH hz hS hl.1 er hw (cwV 0 hts (lw_V q468 q469 q470 q140 q471) rfl rfl rfl (by decide +kernel) (z_room (Nat.le_of_ble_eq_true rfl))) he rfl rfl rfl (Nat.le_of_ble_eq_true rfl) dJ7_length_6 ⟨Nat.le_of_ble_eq_true rfl, Nat.le_of_ble_eq_true rfl⟩) hS (fun x_10 hp_8 nx_9 hw H locs hH hz hS => ?_)
  refine lv_ishr hx hb dJ7_length_9 ?_
  exact zr_iret hk hr hH hz hS hw (Nat.le_of_ble_eq_true rfl) (Nat.le_of_ble_eq_true rfl) dJ7_length_10
theorem fk_J7_15 {ci : Nat} (h : ci ∈ [40]) : zFk "java/lang/String" 15 ci 1 := by
  simp only [List.mem_cons, List.not_mem_nil, or_false] at h
  rcases h with rfl
  · exact ⟨RJ7, TJ7, 4, rfl, by decide, q582⟩
def wp_J7_coder (l : Launch) (g : zG) (d : Nat) (h0 : Nat) (hp : zHp) (nx : Nat) (Post : Int32 → zHp → Nat → Prop) : Prop :=
  (∃ P_14 : Int32 → Prop, (∀ (x_1 : Int32), P_14 x_1 →
  ((narrow .byte (.int x_1) = .int x_1 ∧ Post x_1 hp nx))) ∧
  (((1 : Int32) = 0 →
  P_14 (1 : Int32)) ∧
  (¬ (1 : Int32) = 0 →
  (zgI hp (some h0) [40] 1 fun x_5 =>
  P_14 x_5))))
set_option maxHeartbeats 40000000 in
theorem met_J7_coder {l : Launch} {g : zG} {d : Nat} {h0 : Nat} {hp : zHp} {nx : Nat} {Post : Int32 → zHp → Nat → Prop} (hw : wp_J7_coder l g d h0 hp nx Post) : zMt l g yJ7_coder cJ7_coder 1 (some .byte) (d + 1) 0 0 [.ref h0] hp nx (zQi g Post) := by
  refine z_start (by decide) (Nat.le_of_ble_eq_true rfl) ?_
  intro p e s m below meth c hk hr hin hH hz ls hl
  have hx := hk.1.1
  have hb := hk.1.2.1
  have hown := hk.1.2.2.2.1
  have hts := hk.1.2.2.2.2
  have hS : va_S (zAd g) s.heap s.heap [] := va_S.rf
  have hl : lv_has ls 1 [(0, va_rf (some h0))] := hl
  unfold wp_J7_coder at hw
  refine zw_gets hk hS 2 rfl q472 dJ7_coder_0 ?_
  obtain ⟨P_14, hP_14, hw⟩ := hw
  have hJ_14 : ∀ (x_1 : Int32) (H : Heap) (locs : List Loc) (ls : Array Slot), P_14 x_1 → lv_has ls 1 [(0, va_rf (some h0))] → zHd g hp H → H.size = nx → va_S (zAd g) s.heap H locs → W p l e (zrm (d + 1) 0 0) s m ([.ref h0] : List Value).toArray below meth c H locs 0 0 (MQ below (zQi g Post) ([.ref h0] : List Value).toArray s 0 0 (zAd g)) (F0 m 14 ls [.int x_1]) := by
    intro x_1 H locs ls hw hl hH hz hS
    have hw := hP_14 x_1 hw
    exact zr_nret hk hr hH hz hS hw.1 hw.2 (Nat.le_of_ble_eq_true rfl) (Nat.le_of_ble_eq_true rfl) dJ7_coder_14
  refine lv_if_eq (tgt := 13) hx hb dJ7_coder_3 (by decide) (fun hc => ?_) (fun hc => ?_)
  · have hw := hw.1 hc
    refine lv_iconst (v := (1 : Int32)) hx hb dJ7_coder_13 (by decide) ?_
    exact hJ_14 (1 : Int32) _ _ _ hw hl hH hz hS
  · have hw := hw.2 hc
    refine zr_aload_n (r := some h0) hx hb dJ7_coder_6 rfl (lv_at hl 0 rfl) ?_
    obtain ⟨a_2, ci_3, fs_4, x_5, er, he, hc, hv, hw⟩ := zgI_e hw
    refine zw_get hk hH er he hv (fk_J7_15 hc) dJ7_coder_7 ?_
    refine lv_goto (tgt := 14) hx hb dJ7_coder_10 (by decide) ?_
    exact hJ_14 x_5 _ _ _ hw hl hH hz hS
def wp_J7_getBytes (l : Launch) (g : zG) (d : Nat) (h0 : Nat) (r1 : Option Nat) (x2 : Int32) (x3 : Int32) (hp : zHp) (nx : Nat) (Post : zHp → Nat → Prop) : Prop :=
  (zo hp (some h0) [40] fun a_37 ci_38 fs_39 => zMt l g yJ7_coder cJ7_coder 1 (some .byte) d 0 0 (.ref a_37 :: []) hp nx (zQi g fun x_3 hp_1 nx_2 =>
  (∃ P_43 : zHp → Nat → Prop, (∀ (hp_4 : zHp) (nx_5 : Nat), P_43 hp_4 nx_5 →
  (Post hp_4 nx_5)) ∧
  ((x_3 = x3 →
  (zgR hp_1 (some h0) [40] 0 fun r_22 =>
  (zgR hp_1 (some h0) [40] 0 fun r_26 =>
  (zln (g.2.1 2) hp_1 r_26 fun x_29 =>
  (zaI (g.2.1 2) hp_1 r_22 fun a_30 n_32 f_34 => zaI (g.2.1 2) hp_1 r1 fun a_31 n_33 f_35 => zB g ≤ a_31 ∧ ¬ (0 : Int32) < 0 ∧ ¬ (x2 <<< (x3 &&& 31)) < 0 ∧ ¬ x_29 < 0 ∧ (0 : Int32).toNatClampNeg + x_29.toNatClampNeg ≤ n_32 ∧ (x2 <<< (x3 &&& 31)).toNatClampNeg + x_29.toNatClampNeg ≤ n_33 ∧ (∀ i, i < x_29.toNatClampNeg → fits .byte (.int (f_34 ((0 : Int32).toNatClampNeg + i))) = true) ∧ ∀ hp_36 : zHp, hp_36 = va_up hp_1 a_31 (some (.inl (g.2.1 2, n_33, .inl (va_cpy f_34 f_35 (0 : Int32).toNatClampNeg (x2 <<< (x3 &&& 31)).toNatClampNeg x_29.toNatClampNeg)))) →
  P_43 hp_36 nx_2))))) ∧
  (¬ x_3 = x3 →
  (zgR hp_1 (some h0) [40] 0 fun r_9 =>
  (zgR hp_1 (some h0) [40] 0 fun r_13 =>
  (zln (g.2.1 2) hp_1 r_13 fun x_16 =>
  (zMt l g yJ13_inflate cJ13_inflate 5 none d 0 0 [va_rf r_9, .int (0 : Int32), va_rf r1, .int x2, .int x_16] hp_1 nx_2 (zQv g fun hp_17 nx_18 =>
  P_43 hp_17 nx_18))))))))))
set_option maxHeartbeats 40000000 in
theorem met_J7_getBytes {l : Launch} {g : zG} {d : Nat} {h0 : Nat} {r1 : Option Nat} {x2 : Int32} {x3 : Int32} {hp : zHp} {nx : Nat} {Post : zHp → Nat → Prop} (hw : wp_J7_getBytes l g d h0 r1 x2 x3 hp nx Post) : zMt l g yJ7_getBytes cJ7_getBytes 4 none (d + 1) 0 0 [.ref h0, va_rf r1, .int x2, .int x3] hp nx (zQv g Post) := by
  refine z_start (by decide) (by cases r1 <;> exact Nat.le_of_ble_eq_true rfl) ?_
  intro p e s m below meth c hk hr hin hH hz ls hl
  have hx := hk.1.1
  have hb := hk.1.2.1
  have hown := hk.1.2.2.2.1
  have hts := hk.1.2.2.2.2
  have hS : va_S (zAd g) s.heap s.heap [] := va_S.rf
  have hl : lv_has ls 4 [(0, va_rf (some h0)), (1, va_rf r1), (2, .int x2), (3, .int x3)] := by cases r1 <;> exact hl
  unfold wp_J7_getBytes at hw
  refine zr_aload_n (r := some h0) hx hb dJ7_getBytes_0 rfl (lv_at hl 0 rfl) ?_
  obtain ⟨a_37, ci_38, fs_39, er, he, hc, hw⟩ := zo_e hw
  obtain rfl := List.mem_singleton.mp hc
  refine zr_calli (zw_runV (As := []) hk hH hz hS hl.1 er hw (cwV 0 hts (lw_V q468 q469 q470 q140 q471) rfl rfl rfl (by decide +kernel) (z_room (Nat.le_of_ble_eq_true rfl))) he rfl rfl rfl (Nat.le_of_ble_eq_true rfl) dJ7_getBytes_1 ⟨Nat.le_of_ble_eq_true rfl, Nat.le_of_ble_eq_true rfl⟩) hS (fun x_3 hp_1 nx_2 hw H locs hH hz hS => ?_)
  refine lv_iload_n hx hb dJ7_getBytes_4 rfl (lv_at hl 3 rfl) ?_
  obtain ⟨P_43, hP_43, hw⟩ := hw
  have hJ_43 : ∀ (hp_4 : zHp) (nx_5 : Nat) (H : Heap) (locs : List Loc) (ls : Array Slot), P_43 hp_4 nx_5 → lv_has ls 4 [(0, va_rf (some h0)), (1, va_rf r1), (2, .int x2), (3, .int x3)] → zHd g hp_4 H → H.size = nx_5 → va_S (zAd g) s.heap H locs → W p l e (zrm (d + 1) 0 0) s m ([.ref h0, va_rf r1, .int x2, .int x3] : List Value).toArray below meth c H locs 0 0 (MQ below (zQv g Post) ([.ref h0, va_rf r1, .int x2, .int x3] : List Value).toArray s 0 0 (zAd g)) (F0 m 43 ls []) := by
    intro hp_4 nx_5 H locs ls hw hl hH hz hS
    have hw := hP_43 hp_4 nx_5 hw
    exact zr_vret hk hr hH hz hS hw (Nat.le_of_ble_eq_true rfl) (Nat.le_of_ble_eq_true rfl) dJ7_getBytes_43
  refine lv_icmp_ne (tgt := 28) hx hb dJ7_getBytes_5 (by decide) (fun hc => ?_) (fun hc => ?_)
  · have hw := hw.2 hc
    refine zr_aload_n (r := some h0) hx hb dJ7_getBytes_28 rfl (lv_at hl 0 rfl) ?_
    obtain ⟨a_6, ci_7, fs_8, r_9, er, he, hc, hv, hw⟩ := zgR_e hw
    refine zw_get hk hH er he hv (fk_J7_9 hc) dJ7_getBytes_29 ?_
    refine lv_iconst (v := (0 : Int32)) hx hb dJ7_getBytes_32 (by decide) ?_
    refine zr_aload_n (r := r1) hx hb dJ7_getBytes_33 rfl (lv_at hl 1 rfl) ?_
    refine lv_iload_n hx hb dJ7_getBytes_34 rfl (lv_at hl 2 rfl) ?_
    refine zr_aload_n (r := some h0) hx hb dJ7_getBytes_35 rfl (lv_at hl 0 rfl) ?_
    obtain ⟨a_10, ci_11, fs_12, r_13, er, he, hc, hv, hw⟩ := zgR_e hw
    refine zw_get hk hH er he hv (fk_J7_9 hc) dJ7_getBytes_36 ?_
    obtain ⟨a_14, v_15, er, he, hw⟩ := zln_e hw
    refine zw_alen hk hH 2 er he rfl dJ7_getBytes_39 ?_
    generalize Int32.ofNat v_15.1 = x_16 at hw ⊢
    refine zr_callv (zr_runS (As := [va_rf r_9, .int (0 : Int32), va_rf r1, .int x2, .int x_16]) hk hH hz hS hl.1 hw (va_cwS 5 hts (lw_S q506 q487 q147 q488) rfl rfl rfl (by decide +kernel) (z_room (Nat.le_of_ble_eq_true rfl))) rfl rfl (Nat.le_of_ble_eq_true rfl) dJ7_getBytes_40 ⟨Nat.le_of_ble_eq_true rfl, Nat.le_of_ble_eq_true rfl⟩) hS (fun hp_17 nx_18 hw H locs hH hz hS => ?_)
    exact hJ_43 hp_17 nx_18 _ _ _ hw hl hH hz hS
  · have hw := hw.1 hc
    refine zr_aload_n (r := some h0) hx hb dJ7_getBytes_8 rfl (lv_at hl 0 rfl) ?_
    obtain ⟨a_19, ci_20, fs_21, r_22, er, he, hc, hv, hw⟩ := zgR_e hw
    refine zw_get hk hH er he hv (fk_J7_9 hc) dJ7_getBytes_9 ?_
    refine lv_iconst (v := (0 : Int32)) hx hb dJ7_getBytes_12 (by decide) ?_
    refine zr_aload_n (r := r1) hx hb dJ7_getBytes_13 rfl (lv_at hl 1 rfl) ?_
    refine lv_iload_n hx hb dJ7_getBytes_14 rfl (lv_at hl 2 rfl) ?_
    refine lv_iload_n hx hb dJ7_getBytes_15 rfl (lv_at hl 3 rfl) ?_
    refine lv_ishl hx hb dJ7_getBytes_16 ?_
    refine zr_aload_n (r := some h0) hx hb dJ7_getBytes_17 rfl (lv_at hl 0 rfl) ?_
    obtain ⟨a_23, ci_24, fs_25, r_26, er, he, hc, hv, hw⟩ := zgR_e hw
    refine zw_get hk hH er he hv (fk_J7_9 hc) dJ7_getBytes_18 ?_
    obtain ⟨a_27, v_28, er, he, hw⟩ := zln_e hw
    refine zw_alen hk hH 2 er he rfl dJ7_getBytes_21 ?_
    generalize Int32.ofNat v_28.1 = x_29 at hw ⊢
    obtain ⟨a_30, n_32, f_34, er0, he0, hw⟩ := zaI_e hw
    obtain ⟨a_31, n_33, f_35, er1, he1, hA, h1, h2, h3, h4, h5, hft, hw⟩ := zaI_e hw
    obtain ⟨hp_36, eh⟩ : ∃ y : zHp, y = va_up hp_1 a_31 (some (.inl (g.2.1 2, n_33, .inl (va_cpy f_34 f_35 (0 : Int32).toNatClampNeg (x2 <<< (x3 &&& 31)).toNatClampNeg x_29.toNatClampNeg)))) := ⟨_, rfl⟩
    have hw := hw hp_36 eh
    refine zw_copyI (r0 := r_22) (r1 := r1) (ty := .byte) hk hH hz hS hl.1 q505 q432 q431 q145 2 er0 er1 he0 he1 rfl rfl hA h1 h2 h3 h4 h5 hft eh (Nat.le_add_left 1 d) (Nat.le_trans (Nat.le_of_ble_eq_true rfl : _ ≤ 64) (by show 64 ≤ 64 * (d + 1); omega)) dJ7_getBytes_22 (fun H locs hH hz hS => ?_)
    refine lv_goto (tgt := 43) hx hb dJ7_getBytes_25 (by decide) ?_
    exact hJ_43 hp_36 nx_2 _ _ _ hw hl hH hz hS
def wp_J7_init (l : Launch) (g : zG) (d : Nat) (mc ms : Nat) (h0 : Nat) (r1 : Option Nat) (hp : zHp) (nx : Nat) (Post : zHp → Nat → Prop) : Prop :=
  (∃ c_1 s_2 : Nat, 0 + c_1 ≤ mc ∧ 0 + s_2 ≤ ms ∧ zMt l g yJ7_init_2 cJ7_init_2 5 none d c_1 s_2 (.ref h0 :: [va_rf r1, va_rf none]) hp nx (zQv g fun hp_3 nx_4 =>
  ((0 + c_1) ≤ mc ∧ (0 + s_2) ≤ ms ∧ Post hp_3 nx_4)))
set_option maxHeartbeats 40000000 in
theorem met_J7_init {l : Launch} {g : zG} {d : Nat} {mc ms : Nat} {h0 : Nat} {r1 : Option Nat} {hp : zHp} {nx : Nat} {Post : zHp → Nat → Prop} (hw : wp_J7_init l g d mc ms h0 r1 hp nx Post) : zMt l g yJ7_init cJ7_init 2 none (d + 1) mc ms [.ref h0, va_rf r1] hp nx (zQv g Post) := by
  refine z_start (by decide) (by cases r1 <;> exact Nat.le_of_ble_eq_true rfl) ?_
  intro p e s m below meth c hk hr hin hH hz ls hl
  have hx := hk.1.1
  have hb := hk.1.2.1
  have hown := hk.1.2.2.2.1
  have hts := hk.1.2.2.2.2
  have hS : va_S (zAd g) s.heap s.heap [] := va_S.rf
  have hl : lv_has ls 2 [(0, va_rf (some h0)), (1, va_rf r1)] := by cases r1 <;> exact hl
  unfold wp_J7_init at hw
  refine zr_aload_n (r := some h0) hx hb dJ7_init_0 rfl (lv_at hl 0 rfl) ?_
  refine zr_aload_n (r := r1) hx hb dJ7_init_1 rfl (lv_at hl 1 rfl) ?_
  refine zx_null hx hb dJ7_init_2 ?_
  obtain ⟨c_1, s_2, hcl, hsl, hw⟩ := hw
  refine zr_callv (zw_runI (As := [va_rf r1, va_rf none]) (r := some h0) hk hH hz hS hl.1 rfl hw (cwI 2 hts (lw_meth q543) rfl rfl rfl (hts _ q140) (hts _ q541) (hts _ q542) rfl (by decide +kernel) (z_room (Nat.le_of_ble_eq_true rfl))) rfl rfl (Nat.le_of_ble_eq_true rfl) dJ7_init_3 ⟨hcl, hsl⟩) hS (fun hp_3 nx_4 hw H locs hH hz hS => ?_)
  obtain ⟨hkc, hks, hw⟩ := hw
  exact zr_vret hk hr hH hz hS hw hkc hks dJ7_init_6
theorem ff_J7_15 {ci : Nat} (h : ci ∈ [40]) : zFf "java/lang/String" 15 ci 1 .byte := by
  simp only [List.mem_cons, List.not_mem_nil, or_false] at h
  rcases h with rfl
  · exact ⟨RJ7, TJ7, 4, rfl, by decide, q582, rfl, rfl, by decide +kernel⟩
theorem ff_J7_9 {ci : Nat} (h : ci ∈ [40]) : zFf "java/lang/String" 9 ci 0 (.array .byte) := by
  simp only [List.mem_cons, List.not_mem_nil, or_false] at h
  rcases h with rfl
  · exact ⟨RJ7, TJ7, 4, rfl, by decide, q581, rfl, rfl, by decide +kernel⟩
theorem fk_J7_1048 {ci : Nat} (h : ci ∈ [39]) : zFk "java/lang/String" 1048 ci 2 := by
  simp only [List.mem_cons, List.not_mem_nil, or_false] at h
  rcases h with rfl
  · exact ⟨RJ6, TJ6, 4, rfl, by decide, q375⟩
def wp_J7_init_2 (l : Launch) (g : zG) (d : Nat) (mc ms : Nat) (h0 : Nat) (r1 : Option Nat) (r2 : Option Nat) (hp : zHp) (nx : Nat) (Post : zHp → Nat → Prop) : Prop :=
  (0 ≤ mc ∧ 0 ≤ ms ∧ zo hp r1 [39] fun a_78 ci_79 fs_80 => zMt l g yJ5_getValue cJ5_getValue 1 (some (.array .byte)) d 0 0 (.ref a_78 :: []) hp nx (zQq g fun r_3 hp_1 nx_2 =>
  (0 ≤ mc ∧ 0 ≤ ms ∧ zo hp_1 r1 [39] fun a_75 ci_76 fs_77 => zMt l g yJ6_length cJ6_length 1 (some .int) d 0 0 (.ref a_75 :: []) hp_1 nx_2 (zQi g fun x_6 hp_4 nx_5 =>
  (0 ≤ mc ∧ 0 ≤ ms ∧ zo hp_4 r1 [39] fun a_72 ci_73 fs_74 => zMt l g yJ5_isLatin1 cJ5_isLatin1 1 (some .boolean) d 0 0 (.ref a_72 :: []) hp_4 nx_5 (zQi g fun x_9 hp_7 nx_8 =>
  (∃ P_97 : (Option Nat) → Int32 → zHp → Nat → Nat → Nat → Prop, (∀ (r_10 : Option Nat) (x_11 : Int32) (hp_12 : zHp) (nx_13 : Nat) (kc_14 : Nat) (ks_15 : Nat), P_97 r_10 x_11 hp_12 nx_13 kc_14 ks_15 →
  (kc_14 ≤ mc ∧ ks_15 ≤ ms ∧ Post hp_12 nx_13)) ∧
  ((x_9 = 0 →
  (∃ P_79 : (Option Nat) → Int32 → zHp → Nat → Nat → Nat → Prop, (∀ (r_16 : Option Nat) (x_17 : Int32) (hp_18 : zHp) (nx_19 : Nat) (kc_20 : Nat) (ks_21 : Nat), P_79 r_16 x_17 hp_18 nx_19 kc_20 ks_21 →
  ((narrow .byte (.int (1 : Int32)) = .int (1 : Int32) ∧ fits .byte (.int (1 : Int32)) = true) ∧ zpt g hp_18 (some h0) [40] 1 (.int (1 : Int32)) fun hp_25 =>
  (∃ c_26 s_27 : Nat, kc_20 + c_26 ≤ mc ∧ ks_21 + s_27 ≤ ms ∧ zMt l g yJ11_copyOfRange cJ11_copyOfRange 3 (some (.array .byte)) d c_26 s_27 [va_rf r_16, .int (0 : Int32), .int (x_17 <<< ((1 : Int32) &&& 31))] hp_25 nx_19 (zQq g fun r_30 hp_28 nx_29 =>
  (zpt g hp_28 (some h0) [40] 0 (va_rf r_30) fun hp_34 =>
  P_97 r_16 x_17 hp_34 nx_29 (kc_20 + c_26) (ks_21 + s_27)))))) ∧
  (((1 : Int32) = 0 →
  P_79 r_3 x_6 hp_7 nx_8 0 0) ∧
  (¬ (1 : Int32) = 0 →
  (zgI hp_7 r1 [39] 2 fun x_38 =>
  ((x_38 = 0 →
  P_79 r_3 x_6 hp_7 nx_8 0 0) ∧
  (¬ x_38 = 0 →
  (∃ c_39 s_40 : Nat, 0 + c_39 ≤ mc ∧ 0 + s_40 ≤ ms ∧ zMt l g yJ8_compress cJ8_compress 6 (some (.array .byte)) d c_39 s_40 [va_rf r_3, .int (0 : Int32), .int x_6] hp_7 nx_8 (zQq g fun r_43 hp_41 nx_42 =>
  (zpt g hp_41 (some h0) [40] 0 (va_rf r_43) fun hp_47 =>
  (zgR hp_47 (some h0) [40] 0 fun r_51 =>
  ((0 + c_39) ≤ mc ∧ (0 + s_40) ≤ ms ∧ zMt l g yJ8_coderFromArrayLen cJ8_coderFromArrayLen 2 (some .byte) d 0 0 [va_rf r_51, .int x_6] hp_47 nx_42 (zQi g fun x_54 hp_52 nx_53 =>
  ((narrow .byte (.int x_54) = .int x_54 ∧ fits .byte (.int x_54) = true) ∧ zpt g hp_52 (some h0) [40] 1 (.int x_54) fun hp_58 =>
  ((0 + c_39) ≤ mc ∧ (0 + s_40) ≤ ms ∧ Post hp_58 nx_53))))))))))))))) ∧
  (¬ x_9 = 0 →
  ((narrow .byte (.int (0 : Int32)) = .int (0 : Int32) ∧ fits .byte (.int (0 : Int32)) = true) ∧ zpt g hp_7 (some h0) [40] 1 (.int (0 : Int32)) fun hp_62 =>
  (∃ c_63 s_64 : Nat, 0 + c_63 ≤ mc ∧ 0 + s_64 ≤ ms ∧ zMt l g yJ11_copyOfRange cJ11_copyOfRange 3 (some (.array .byte)) d c_63 s_64 [va_rf r_3, .int (0 : Int32), .int x_6] hp_62 nx_8 (zQq g fun r_67 hp_65 nx_66 =>
  (zpt g hp_65 (some h0) [40] 0 (va_rf r_67) fun hp_71 =>
  P_97 r_3 x_6 hp_71 nx_66 (0 + c_63) (0 + s_64))))))))))))))
set_option maxHeartbeats 40000000 in
theorem met_J7_init_2 {l : Launch} {g : zG} {d : Nat} {mc ms : Nat} {h0 : Nat} {r1 : Option Nat} {r2 : Option Nat} {hp : zHp} {nx : Nat} {Post : zHp → Nat → Prop} (hw : wp_J7_init_2 l g d mc ms h0 r1 r2 hp nx Post) : zMt l g yJ7_init_2 cJ7_init_2 5 none (d + 1) mc ms [.ref h0, va_rf r1, va_rf r2] hp nx (zQv g Post) := by
  refine z_start (by decide) (by cases r1 <;> cases r2 <;> exact Nat.le_of_ble_eq_true rfl) ?_
  intro p e s m below meth c hk hr hin hH hz ls hl
  have hx := hk.1.1
  have hb := hk.1.2.1
  have hown := hk.1.2.2.2.1
  have hts := hk.1.2.2.2.2
  have hS : va_S (zAd g) s.heap s.heap [] := va_S.rf
  have hl : lv_has ls 5 [(0, va_rf (some h0)), (1, va_rf r1), (2, va_rf r2)] := by cases r1 <;> cases r2 <;> exact hl
  unfold wp_J7_init_2 at hw
  refine zr_aload_n (r := some h0) hx hb dJ7_init_2_0 rfl (lv_at hl 0 rfl) ?_
  refine W.objInit (a := h0) hx hb hown (hts _ q544) (hts _ q206) (hts _ q207) rfl (by rw [hk.1.2.2.1]; exact hl.1) rfl dJ7_init_2_1 (Nat.le_add_left 1 d) (Nat.le_trans (Nat.le_of_ble_eq_true rfl : _ ≤ 64) (by show 64 ≤ 64 * (d + 1); omega)) ?_
  refine W.eq (g2 := F0 m 4 ls []) rfl ?_
  refine zr_aload_n (r := r1) hx hb dJ7_init_2_4 rfl (lv_at hl 1 rfl) ?_
  obtain ⟨hcl, hsl, hw⟩ := hw
  obtain ⟨a_78, ci_79, fs_80, er, he, hc, hw⟩ := zo_e hw
  obtain rfl := List.mem_singleton.mp hc
  refine zr_callq (zw_runU (As := []) hk hH hz hS hl.1 er hw (va_cwU 0 hts (z_U q545 q547 q548 q546 q138 q549) rfl rfl rfl rfl (by decide +kernel) (z_room (Nat.le_of_ble_eq_true rfl))) he rfl rfl rfl (Nat.le_of_ble_eq_true rfl) dJ7_init_2_5 ⟨hcl, hsl⟩) hS (fun r_3 hp_1 nx_2 hw H locs hH hz hS => ?_)
  refine zr_astore_n (r := r_3) (i := 3) (lv' := [(3, va_rf r_3), (0, va_rf (some h0)), (1, va_rf r1), (2, va_rf r2)]) hx hb dJ7_init_2_8 rfl hl (by decide) (by first | rfl | simp [List.filter_cons, z_cat, z_catI, z_catJ, z_catF, z_catD]) (fun ls hl => ?_)
  refine zr_aload_n (r := r1) hx hb dJ7_init_2_9 rfl (lv_at hl 2 rfl) ?_
  obtain ⟨hcl, hsl, hw⟩ := hw
  obtain ⟨a_75, ci_76, fs_77, er, he, hc, hw⟩ := zo_e hw
  obtain rfl := List.mem_singleton.mp hc
  refine zr_calli (zw_runU (As := []) hk hH hz hS hl.1 er hw (va_cwO 0 hts (z_O q550 q552 q551 q553 q554 q139 q555) rfl rfl rfl q557 (by decide +kernel) (z_room (Nat.le_of_ble_eq_true rfl))) he rfl rfl rfl (Nat.le_of_ble_eq_true rfl) dJ7_init_2_10 ⟨hcl, hsl⟩) hS (fun x_6 hp_4 nx_5 hw H locs hH hz hS => ?_)
  refine lv_istore (lv' := [(4, .int x_6), (3, va_rf r_3), (0, va_rf (some h0)), (1, va_rf r1), (2, va_rf r2)]) hx hb dJ7_init_2_13 hl (by decide) (by first | rfl | simp [List.filter_cons, z_cat, z_catI, z_catJ, z_catF, z_catD]) (fun ls hl => ?_)
  refine zr_aload_n (r := r1) hx hb dJ7_init_2_15 rfl (lv_at hl 3 rfl) ?_
  obtain ⟨hcl, hsl, hw⟩ := hw
  obtain ⟨a_72, ci_73, fs_74, er, he, hc, hw⟩ := zo_e hw
  obtain rfl := List.mem_singleton.mp hc
  refine zr_calli (zw_runU (As := []) hk hH hz hS hl.1 er hw (va_cwU 0 hts (z_U q558 q435 q436 q434 q138 q437) rfl rfl rfl rfl (by decide +kernel) (z_room (Nat.le_of_ble_eq_true rfl))) he rfl rfl rfl (Nat.le_of_ble_eq_true rfl) dJ7_init_2_16 ⟨hcl, hsl⟩) hS (fun x_9 hp_7 nx_8 hw H locs hH hz hS => ?_)
  obtain ⟨P_97, hP_97, hw⟩ := hw
  have hJ_97 : ∀ (r_10 : Option Nat) (x_11 : Int32) (hp_12 : zHp) (nx_13 : Nat) (kc_14 : Nat) (ks_15 : Nat) (H : Heap) (locs : List Loc) (ls : Array Slot), P_97 r_10 x_11 hp_12 nx_13 kc_14 ks_15 → lv_has ls 5 [(0, va_rf (some h0)), (1, va_rf r1), (2, va_rf r2), (3, va_rf r_10), (4, .int x_11)] → zHd g hp_12 H → H.size = nx_13 → va_S (zAd g) s.heap H locs → W p l e (zrm (d + 1) mc ms) s m ([.ref h0, va_rf r1, va_rf r2] : List Value).toArray below meth c H locs kc_14 ks_15 (MQ below (zQv g Post) ([.ref h0, va_rf r1, va_rf r2] : List Value).toArray s mc ms (zAd g)) (F0 m 97 ls []) := by
    intro r_10 x_11 hp_12 nx_13 kc_14 ks_15 H locs ls hw hl hH hz hS
    have hw := hP_97 r_10 x_11 hp_12 nx_13 kc_14 ks_15 hw
    obtain ⟨hkc, hks, hw⟩ := hw
    exact zr_vret hk hr hH hz hS hw hkc hks dJ7_init_2_97
  refine lv_if_eq (tgt := 41) hx hb dJ7_init_2_19 (by decide) (fun hc => ?_) (fun hc => ?_)
  · have hw := hw.1 hc
    refine zw_gets hk hS 2 rfl q472 dJ7_init_2_41 ?_
    obtain ⟨P_79, hP_79, hw⟩ := hw
    have hJ_79 : ∀ (r_16 : Option Nat) (x_17 : Int32) (hp_18 : zHp) (nx_19 : Nat) (kc_20 : Nat) (ks_21 : Nat) (H : Heap) (locs : List Loc) (ls : Array Slot), P_79 r_16 x_17 hp_18 nx_19 kc_20 ks_21 → lv_has ls 5 [(0, va_rf (some h0)), (1, va_rf r1), (2, va_rf r2), (3, va_rf r_16), (4, .int x_17)] → zHd g hp_18 H → H.size = nx_19 → va_S (zAd g) s.heap H locs → W p l e (zrm (d + 1) mc ms) s m ([.ref h0, va_rf r1, va_rf r2] : List Value).toArray below meth c H locs kc_20 ks_21 (MQ below (zQv g Post) ([.ref h0, va_rf r1, va_rf r2] : List Value).toArray s mc ms (zAd g)) (F0 m 79 ls []) := by
      intro r_16 x_17 hp_18 nx_19 kc_20 ks_21 H locs ls hw hl hH hz hS
      have hw := hP_79 r_16 x_17 hp_18 nx_19 kc_20 ks_21 hw
      refine zr_aload_n (r := some h0) hx hb dJ7_init_2_79 rfl (lv_at hl 0 rfl) ?_
      refine lv_iconst (v := (1 : Int32)) hx hb dJ7_init_2_80 (by decide) ?_
      obtain ⟨hbo, hw⟩ := hw
      obtain ⟨a_22, ci_23, fs_24, hp_25, er, he, hc, hA, hkl, eh, hw⟩ := zpt_e hw
      refine zw_putF hk hin hH hz hS er he hA hkl eh (ff_J7_15 hc) hbo.1 hbo.2 dJ7_init_2_81 (fun H locs hH hz hS => ?_)
      refine zr_aload_n (r := some h0) hx hb dJ7_init_2_84 rfl (lv_at hl 0 rfl) ?_
      refine zr_aload_n (r := r_16) hx hb dJ7_init_2_85 rfl (lv_at hl 3 rfl) ?_
      refine lv_iconst (v := (0 : Int32)) hx hb dJ7_init_2_86 (by decide) ?_
      refine lv_iload hx hb dJ7_init_2_87 (lv_at hl 4 rfl) ?_
      refine lv_iconst (v := (1 : Int32)) hx hb dJ7_init_2_89 (by decide) ?_
      refine lv_ishl hx hb dJ7_init_2_90 ?_
      obtain ⟨c_26, s_27, hcl, hsl, hw⟩ := hw
      refine zr_callq (zr_runS (As := [va_rf r_16, .int (0 : Int32), .int (x_17 <<< ((1 : Int32) &&& 31))]) hk hH hz hS hl.1 hw (va_cwS 3 hts (lw_S q559 q560 q144 q561) rfl rfl rfl (by decide +kernel) (z_room (Nat.le_of_ble_eq_true rfl))) rfl rfl (by simp only [List.map_cons, List.map_nil, z_cat]; exact Nat.le_of_ble_eq_true rfl) dJ7_init_2_91 ⟨hcl, hsl⟩) hS (fun r_30 hp_28 nx_29 hw H locs hH hz hS => ?_)
      obtain ⟨a_31, ci_32, fs_33, hp_34, er, he, hc, hA, hkl, eh, hw⟩ := zpt_e hw
      refine zw_putF hk hin hH hz hS er he hA hkl eh (ff_J7_9 hc) (z_narA _ _) (z_fitA _ _) dJ7_init_2_94 (fun H locs hH hz hS => ?_)
      exact hJ_97 r_16 x_17 hp_34 nx_29 (kc_20 + c_26) (ks_21 + s_27) _ _ _ hw hl hH hz hS
    refine lv_if_eq (tgt := 79) hx hb dJ7_init_2_44 (by decide) (fun hc => ?_) (fun hc => ?_)
    · have hw := hw.1 hc
      exact hJ_79 r_3 x_6 hp_7 nx_8 0 0 _ _ _ hw (lv_sub hl [2, 3, 4, 1, 0] rfl) hH hz hS
    · have hw := hw.2 hc
      refine zr_aload_n (r := r1) hx hb dJ7_init_2_47 rfl (lv_at hl 3 rfl) ?_
      obtain ⟨a_35, ci_36, fs_37, x_38, er, he, hc, hv, hw⟩ := zgI_e hw
      refine zw_get hk hH er he hv (fk_J7_1048 hc) dJ7_init_2_48 ?_
      refine lv_if_eq (tgt := 79) hx hb dJ7_init_2_51 (by decide) (fun hc => ?_) (fun hc => ?_)
      · have hw := hw.1 hc
        exact hJ_79 r_3 x_6 hp_7 nx_8 0 0 _ _ _ hw (lv_sub hl [2, 3, 4, 1, 0] rfl) hH hz hS
      · have hw := hw.2 hc
        refine zr_aload_n (r := some h0) hx hb dJ7_init_2_54 rfl (lv_at hl 2 rfl) ?_
        refine zr_aload_n (r := r_3) hx hb dJ7_init_2_55 rfl (lv_at hl 1 rfl) ?_
        refine lv_iconst (v := (0 : Int32)) hx hb dJ7_init_2_56 (by decide) ?_
        refine lv_iload hx hb dJ7_init_2_57 (lv_at hl 0 rfl) ?_
        obtain ⟨c_39, s_40, hcl, hsl, hw⟩ := hw
        refine zr_callq (zr_runS (As := [va_rf r_3, .int (0 : Int32), .int x_6]) hk hH hz hS hl.1 hw (va_cwS 3 hts (lw_S q568 q569 q141 q570) rfl rfl rfl (by decide +kernel) (z_room (Nat.le_of_ble_eq_true rfl))) rfl rfl (by simp only [List.map_cons, List.map_nil, z_cat]; exact Nat.le_of_ble_eq_true rfl) dJ7_init_2_59 ⟨hcl, hsl⟩) hS (fun r_43 hp_41 nx_42 hw H locs hH hz hS => ?_)
        obtain ⟨a_44, ci_45, fs_46, hp_47, er, he, hc, hA, hkl, eh, hw⟩ := zpt_e hw
        refine zw_putF hk hin hH hz hS er he hA hkl eh (ff_J7_9 hc) (z_narA _ _) (z_fitA _ _) dJ7_init_2_62 (fun H locs hH hz hS => ?_)
        refine zr_aload_n (r := some h0) hx hb dJ7_init_2_65 rfl (lv_at hl 2 rfl) ?_
        refine zr_aload_n (r := some h0) hx hb dJ7_init_2_66 rfl (lv_at hl 2 rfl) ?_
        obtain ⟨a_48, ci_49, fs_50, r_51, er, he, hc, hv, hw⟩ := zgR_e hw
        refine zw_get hk hH er he hv (fk_J7_9 hc) dJ7_init_2_67 ?_
        refine lv_iload hx hb dJ7_init_2_70 (lv_at hl 0 rfl) ?_
        obtain ⟨hcl, hsl, hw⟩ := hw
        refine zr_calli (zr_runS (As := [va_rf r_51, .int x_6]) hk hH hz hS hl.1 hw (va_cwS 2 hts (lw_S q578 q579 q141 q580) rfl rfl rfl (by decide +kernel) (z_room (Nat.le_of_ble_eq_true rfl))) rfl rfl (by simp only [List.map_cons, List.map_nil, z_cat]; exact Nat.le_of_ble_eq_true rfl) dJ7_init_2_72 ⟨hcl, hsl⟩) hS (fun x_54 hp_52 nx_53 hw H locs hH hz hS => ?_)
        obtain ⟨hbo, hw⟩ := hw
        obtain ⟨a_55, ci_56, fs_57, hp_58, er, he, hc, hA, hkl, eh, hw⟩ := zpt_e hw
        refine zw_putF hk hin hH hz hS er he hA hkl eh (ff_J7_15 hc) hbo.1 hbo.2 dJ7_init_2_75 (fun H locs hH hz hS => ?_)
        obtain ⟨hkc, hks, hw⟩ := hw
        exact zr_vret hk hr hH hz hS hw hkc hks dJ7_init_2_78
  · have hw := hw.2 hc
    refine zr_aload_n (r := some h0) hx hb dJ7_init_2_22 rfl (lv_at hl 2 rfl) ?_
    refine lv_iconst (v := (0 : Int32)) hx hb dJ7_init_2_23 (by decide) ?_
    obtain ⟨hbo, hw⟩ := hw
    obtain ⟨a_59, ci_60, fs_61, hp_62, er, he, hc, hA, hkl, eh, hw⟩ := zpt_e hw
    refine zw_putF hk hin hH hz hS er he hA hkl eh (ff_J7_15 hc) hbo.1 hbo.2 dJ7_init_2_24 (fun H locs hH hz hS => ?_)
    refine zr_aload_n (r := some h0) hx hb dJ7_init_2_27 rfl (lv_at hl 2 rfl) ?_
    refine zr_aload_n (r := r_3) hx hb dJ7_init_2_28 rfl (lv_at hl 1 rfl) ?_
    refine lv_iconst (v := (0 : Int32)) hx hb dJ7_init_2_29 (by decide) ?_
    refine lv_iload hx hb dJ7_init_2_30 (lv_at hl 0 rfl) ?_
    obtain ⟨c_63, s_64, hcl, hsl, hw⟩ := hw
    refine zr_callq (zr_runS (As := [va_rf r_3, .int (0 : Int32), .int x_6]) hk hH hz hS hl.1 hw (va_cwS 3 hts (lw_S q559 q560 q144 q561) rfl rfl rfl (by decide +kernel) (z_room (Nat.le_of_ble_eq_true rfl))) rfl rfl (by simp only [List.map_cons, List.map_nil, z_cat]; exact Nat.le_of_ble_eq_true rfl) dJ7_init_2_32 ⟨hcl, hsl⟩) hS (fun r_67 hp_65 nx_66 hw H locs hH hz hS => ?_)
    obtain ⟨a_68, ci_69, fs_70, hp_71, er, he, hc, hA, hkl, eh, hw⟩ := zpt_e hw
    refine zw_putF hk hin hH hz hS er he hA hkl eh (ff_J7_9 hc) (z_narA _ _) (z_fitA _ _) dJ7_init_2_35 (fun H locs hH hz hS => ?_)
    refine lv_goto (tgt := 97) hx hb dJ7_init_2_38 (by decide) ?_
    exact hJ_97 r_3 x_6 hp_71 nx_66 (0 + c_63) (0 + s_64) _ _ _ hw (lv_sub hl [2, 3, 4, 1, 0] rfl) hH hz hS
theorem cw_java_lang_String : ∀ ci ∈ [40], zCw "java/lang/String" ci := by
  intro ci h
  simp only [List.mem_cons, List.not_mem_nil, or_false] at h
  rcases h with rfl
  · exact ⟨RJ7, TJ7, 4, rfl, Or.inr rfl⟩
def wp_J7_equals (l : Launch) (g : zG) (d : Nat) (h0 : Nat) (r1 : Option Nat) (hp : zHp) (nx : Nat) (Post : Int32 → zHp → Nat → Prop) : Prop :=
  (((some h0) = r1 →
  (Post (1 : Int32) hp nx)) ∧
  (¬ (some h0) = r1 →
  (zCa1 hp r1 [40] ∧ (∃ P_55 : Int32 → zHp → Nat → Prop, (∀ (x_1 : Int32) (hp_2 : zHp) (nx_3 : Nat), P_55 x_1 hp_2 nx_3 →
  (((x_1 = 0 ∨ x_1 = 1) ∧ Post x_1 hp_2 nx_3))) ∧
  (∃ P_54 : zHp → Nat → Prop, (∀ (hp_4 : zHp) (nx_5 : Nat), P_54 hp_4 nx_5 →
  P_55 (0 : Int32) hp_4 nx_5) ∧
  (((1 : Int32) = 0 →
  P_54 hp nx) ∧
  (¬ (1 : Int32) = 0 →
  (zCa hp r1 [40] ∧ (∃ P_36 : (Option Nat) → zHp → Nat → Prop, (∀ (r_6 : Option Nat) (hp_7 : zHp) (nx_8 : Nat), P_36 r_6 hp_7 nx_8 →
  (zgR hp_7 (some h0) [40] 0 fun r_12 =>
  (zgR hp_7 r_6 [40] 0 fun r_16 =>
  (zMt l g yJ13_equals cJ13_equals 3 (some .boolean) d 0 0 [va_rf r_12, va_rf r_16] hp_7 nx_8 (zQi g fun x_19 hp_17 nx_18 =>
  ((x_19 = 0 →
  P_54 hp_17 nx_18) ∧
  (¬ x_19 = 0 →
  P_55 (1 : Int32) hp_17 nx_18))))))) ∧
  (((1 : Int32) = 0 →
  P_36 r1 hp nx) ∧
  (¬ (1 : Int32) = 0 →
  (zgI hp (some h0) [40] 1 fun x_23 =>
  (zgI hp r1 [40] 1 fun x_27 =>
  ((x_23 = x_27 →
  P_36 r1 hp nx) ∧
  (¬ x_23 = x_27 →
  P_54 hp nx)))))))))))))))
set_option maxHeartbeats 40000000 in
theorem met_J7_equals {l : Launch} {g : zG} {d : Nat} {h0 : Nat} {r1 : Option Nat} {hp : zHp} {nx : Nat} {Post : Int32 → zHp → Nat → Prop} (hw : wp_J7_equals l g d h0 r1 hp nx Post) : zMt l g yJ7_equals cJ7_equals 3 (some .boolean) (d + 1) 0 0 [.ref h0, va_rf r1] hp nx (zQi g Post) := by
  refine z_start (by decide) (by cases r1 <;> exact Nat.le_of_ble_eq_true rfl) ?_
  intro p e s m below meth c hk hr hin hH hz ls hl
  have hx := hk.1.1
  have hb := hk.1.2.1
  have hown := hk.1.2.2.2.1
  have hts := hk.1.2.2.2.2
  have hS : va_S (zAd g) s.heap s.heap [] := va_S.rf
  have hl : lv_has ls 3 [(0, va_rf (some h0)), (1, va_rf r1)] := by cases r1 <;> exact hl
  unfold wp_J7_equals at hw
  refine zr_aload_n (r := some h0) hx hb dJ7_equals_0 rfl (lv_at hl 0 rfl) ?_
  refine zr_aload_n (r := r1) hx hb dJ7_equals_1 rfl (lv_at hl 1 rfl) ?_
  refine lv_acmp_ne (rx := some h0) (ry := r1) (tgt := 7) hx hb dJ7_equals_2 (by decide) (fun hc => ?_) (fun hc => ?_)
  · have hw := hw.2 hc
    refine zr_aload_n (r := r1) hx hb dJ7_equals_7 rfl (lv_at hl 1 rfl) ?_
    obtain ⟨hca, hw⟩ := hw
    refine zw_inst (r := r1) hk hH q813 hca cw_java_lang_String dJ7_equals_8 ?_
    obtain ⟨P_55, hP_55, hw⟩ := hw
    have hJ_55 : ∀ (x_1 : Int32) (hp_2 : zHp) (nx_3 : Nat) (H : Heap) (locs : List Loc) (ls : Array Slot), P_55 x_1 hp_2 nx_3 → lv_has ls 3 [(0, va_rf (some h0)), (1, va_rf r1)] → zHd g hp_2 H → H.size = nx_3 → va_S (zAd g) s.heap H locs → W p l e (zrm (d + 1) 0 0) s m ([.ref h0, va_rf r1] : List Value).toArray below meth c H locs 0 0 (MQ below (zQi g Post) ([.ref h0, va_rf r1] : List Value).toArray s 0 0 (zAd g)) (F0 m 55 ls [.int x_1]) := by
      intro x_1 hp_2 nx_3 H locs ls hw hl hH hz hS
      have hw := hP_55 x_1 hp_2 nx_3 hw
      exact zr_zret hk hr hH hz hS hw.1 hw.2 (Nat.le_of_ble_eq_true rfl) (Nat.le_of_ble_eq_true rfl) dJ7_equals_55
    obtain ⟨P_54, hP_54, hw⟩ := hw
    have hJ_54 : ∀ (hp_4 : zHp) (nx_5 : Nat) (H : Heap) (locs : List Loc) (ls : Array Slot), P_54 hp_4 nx_5 → lv_has ls 3 [(0, va_rf (some h0)), (1, va_rf r1)] → zHd g hp_4 H → H.size = nx_5 → va_S (zAd g) s.heap H locs → W p l e (zrm (d + 1) 0 0) s m ([.ref h0, va_rf r1] : List Value).toArray below meth c H locs 0 0 (MQ below (zQi g Post) ([.ref h0, va_rf r1] : List Value).toArray s 0 0 (zAd g)) (F0 m 54 ls []) := by
      intro hp_4 nx_5 H locs ls hw hl hH hz hS
      have hw := hP_54 hp_4 nx_5 hw
      refine lv_iconst (v := (0 : Int32)) hx hb dJ7_equals_54 (by decide) ?_
      exact hJ_55 (0 : Int32) hp_4 nx_5 _ _ _ hw hl hH hz hS
    refine lv_if_eq (tgt := 54) hx hb dJ7_equals_11 (by decide) (fun hc => ?_) (fun hc => ?_)
    · have hw := hw.1 hc
      exact hJ_54 hp nx _ _ _ hw hl hH hz hS
    · have hw := hw.2 hc
      refine zr_aload_n (r := r1) hx hb dJ7_equals_14 rfl (lv_at hl 1 rfl) ?_
      obtain ⟨hca, hw⟩ := hw
      refine zw_cast (r := r1) hk hH q813 hca cw_java_lang_String dJ7_equals_15 ?_
      refine zr_astore_n (r := r1) (i := 2) (lv' := [(2, va_rf r1), (0, va_rf (some h0)), (1, va_rf r1)]) hx hb dJ7_equals_18 rfl hl (by decide) (by first | rfl | simp [List.filter_cons, z_cat, z_catI, z_catJ, z_catF, z_catD]) (fun ls hl => ?_)
      refine zw_gets hk hS 2 rfl q472 dJ7_equals_19 ?_
      obtain ⟨P_36, hP_36, hw⟩ := hw
      have hJ_36 : ∀ (r_6 : Option Nat) (hp_7 : zHp) (nx_8 : Nat) (H : Heap) (locs : List Loc) (ls : Array Slot), P_36 r_6 hp_7 nx_8 → lv_has ls 3 [(0, va_rf (some h0)), (1, va_rf r1), (2, va_rf r_6)] → zHd g hp_7 H → H.size = nx_8 → va_S (zAd g) s.heap H locs → W p l e (zrm (d + 1) 0 0) s m ([.ref h0, va_rf r1] : List Value).toArray below meth c H locs 0 0 (MQ below (zQi g Post) ([.ref h0, va_rf r1] : List Value).toArray s 0 0 (zAd g)) (F0 m 36 ls []) := by
        intro r_6 hp_7 nx_8 H locs ls hw hl hH hz hS
        have hw := hP_36 r_6 hp_7 nx_8 hw
        refine zr_aload_n (r := some h0) hx hb dJ7_equals_36 rfl (lv_at hl 0 rfl) ?_
        obtain ⟨a_9, ci_10, fs_11, r_12, er, he, hc, hv, hw⟩ := zgR_e hw
        refine zw_get hk hH er he hv (fk_J7_9 hc) dJ7_equals_37 ?_
        refine zr_aload_n (r := r_6) hx hb dJ7_equals_40 rfl (lv_at hl 2 rfl) ?_
        obtain ⟨a_13, ci_14, fs_15, r_16, er, he, hc, hv, hw⟩ := zgR_e hw
        refine zw_get hk hH er he hv (fk_J7_9 hc) dJ7_equals_41 ?_
        refine zr_calli (zr_runS (As := [va_rf r_12, va_rf r_16]) hk hH hz hS hl.1 hw (va_cwS 2 hts (lw_S q814 q815 q147 q816) rfl rfl rfl (by decide +kernel) (z_room (Nat.le_of_ble_eq_true rfl))) rfl rfl (Nat.le_of_ble_eq_true rfl) dJ7_equals_44 ⟨Nat.le_of_ble_eq_true rfl, Nat.le_of_ble_eq_true rfl⟩) hS (fun x_19 hp_17 nx_18 hw H locs hH hz hS => ?_)
        refine lv_if_eq (tgt := 54) hx hb dJ7_equals_47 (by decide) (fun hc => ?_) (fun hc => ?_)
        · have hw := hw.1 hc
          exact hJ_54 hp_17 nx_18 _ _ _ hw (lv_sub hl [0, 1] rfl) hH hz hS
        · have hw := hw.2 hc
          refine lv_iconst (v := (1 : Int32)) hx hb dJ7_equals_50 (by decide) ?_
          refine lv_goto (tgt := 55) hx hb dJ7_equals_51 (by decide) ?_
          exact hJ_55 (1 : Int32) hp_17 nx_18 _ _ _ hw (lv_sub hl [0, 1] rfl) hH hz hS
      refine lv_if_eq (tgt := 36) hx hb dJ7_equals_22 (by decide) (fun hc => ?_) (fun hc => ?_)
      · have hw := hw.1 hc
        exact hJ_36 r1 hp nx _ _ _ hw (lv_sub hl [1, 2, 0] rfl) hH hz hS
      · have hw := hw.2 hc
        refine zr_aload_n (r := some h0) hx hb dJ7_equals_25 rfl (lv_at hl 1 rfl) ?_
        obtain ⟨a_20, ci_21, fs_22, x_23, er, he, hc, hv, hw⟩ := zgI_e hw
        refine zw_get hk hH er he hv (fk_J7_15 hc) dJ7_equals_26 ?_
        refine zr_aload_n (r := r1) hx hb dJ7_equals_29 rfl (lv_at hl 0 rfl) ?_
        obtain ⟨a_24, ci_25, fs_26, x_27, er, he, hc, hv, hw⟩ := zgI_e hw
        refine zw_get hk hH er he hv (fk_J7_15 hc) dJ7_equals_30 ?_
        refine lv_icmp_ne (tgt := 54) hx hb dJ7_equals_33 (by decide) (fun hc => ?_) (fun hc => ?_)
        · have hw := hw.2 hc
          exact hJ_54 hp nx _ _ _ hw (lv_sub hl [1, 2] rfl) hH hz hS
        · have hw := hw.1 hc
          exact hJ_36 r1 hp nx _ _ _ hw (lv_sub hl [1, 2, 0] rfl) hH hz hS
  · have hw := hw.1 hc
    refine lv_iconst (v := (1 : Int32)) hx hb dJ7_equals_5 (by decide) ?_
    exact zr_zret hk hr hH hz hS (Or.inr rfl) hw (Nat.le_of_ble_eq_true rfl) (Nat.le_of_ble_eq_true rfl) dJ7_equals_6
def wp_J7_indexOf (l : Launch) (g : zG) (d : Nat) (h0 : Nat) (x1 : Int32) (hp : zHp) (nx : Nat) (Post : Int32 → zHp → Nat → Prop) : Prop :=
  (zo hp (some h0) [40] fun a_4 ci_5 fs_6 => zMt l g yJ7_indexOf_2 cJ7_indexOf_2 3 (some .int) d 0 0 (.ref a_4 :: [.int x1, .int (0 : Int32)]) hp nx (zQi g fun x_3 hp_1 nx_2 =>
  (Post x_3 hp_1 nx_2)))
set_option maxHeartbeats 40000000 in
theorem met_J7_indexOf {l : Launch} {g : zG} {d : Nat} {h0 : Nat} {x1 : Int32} {hp : zHp} {nx : Nat} {Post : Int32 → zHp → Nat → Prop} (hw : wp_J7_indexOf l g d h0 x1 hp nx Post) : zMt l g yJ7_indexOf cJ7_indexOf 2 (some .int) (d + 1) 0 0 [.ref h0, .int x1] hp nx (zQi g Post) := by
  refine z_start (by decide) (Nat.le_of_ble_eq_true rfl) ?_
  intro p e s m below meth c hk hr hin hH hz ls hl
  have hx := hk.1.1
  have hb := hk.1.2.1
  have hown := hk.1.2.2.2.1
  have hts := hk.1.2.2.2.2
  have hS : va_S (zAd g) s.heap s.heap [] := va_S.rf
  have hl : lv_has ls 2 [(0, va_rf (some h0)), (1, .int x1)] := hl
  unfold wp_J7_indexOf at hw
  refine zr_aload_n (r := some h0) hx hb dJ7_indexOf_0 rfl (lv_at hl 0 rfl) ?_
  refine lv_iload_n hx hb dJ7_indexOf_1 rfl (lv_at hl 1 rfl) ?_
  refine lv_iconst (v := (0 : Int32)) hx hb dJ7_indexOf_2 (by decide) ?_
  obtain ⟨a_4, ci_5, fs_6, er, he, hc, hw⟩ := zo_e hw
  obtain rfl := List.mem_singleton.mp hc
  refine zr_calli (zw_runV (As := [.int x1, .int (0 : Int32)]) hk hH hz hS hl.1 er hw (cwV 2 hts (lw_V q1477 q1478 q1479 q140 q1480) rfl rfl rfl (by decide +kernel) (z_room (Nat.le_of_ble_eq_true rfl))) he rfl rfl rfl (Nat.le_of_ble_eq_true rfl) dJ7_indexOf_3 ⟨Nat.le_of_ble_eq_true rfl, Nat.le_of_ble_eq_true rfl⟩) hS (fun x_3 hp_1 nx_2 hw H locs hH hz hS => ?_)
  exact zr_iret hk hr hH hz hS hw (Nat.le_of_ble_eq_true rfl) (Nat.le_of_ble_eq_true rfl) dJ7_indexOf_6
def wp_J7_indexOf_2 (l : Launch) (g : zG) (d : Nat) (h0 : Nat) (x1 : Int32) (x2 : Int32) (hp : zHp) (nx : Nat) (Post : Int32 → zHp → Nat → Prop) : Prop :=
  (zo hp (some h0) [40] fun a_33 ci_34 fs_35 => zMt l g yJ7_isLatin1 cJ7_isLatin1 1 (some .boolean) d 0 0 (.ref a_33 :: []) hp nx (zQi g fun x_3 hp_1 nx_2 =>
  (∃ P_36 : Int32 → zHp → Nat → Prop, (∀ (x_4 : Int32) (hp_5 : zHp) (nx_6 : Nat), P_36 x_4 hp_5 nx_6 →
  (Post x_4 hp_5 nx_6)) ∧
  ((x_3 = 0 →
  (zgR hp_1 (some h0) [40] 0 fun r_10 =>
  (zo hp_1 (some h0) [40] fun a_17 ci_18 fs_19 => zMt l g yJ7_length cJ7_length 1 (some .int) d 0 0 (.ref a_17 :: []) hp_1 nx_2 (zQi g fun x_13 hp_11 nx_12 =>
  (zMt l g yJ8_indexOf cJ8_indexOf 4 (some .int) d 0 0 [va_rf r_10, .int x1, .int x2, .int x_13] hp_11 nx_12 (zQi g fun x_16 hp_14 nx_15 =>
  P_36 x_16 hp_14 nx_15)))))) ∧
  (¬ x_3 = 0 →
  (zgR hp_1 (some h0) [40] 0 fun r_23 =>
  (zo hp_1 (some h0) [40] fun a_30 ci_31 fs_32 => zMt l g yJ7_length cJ7_length 1 (some .int) d 0 0 (.ref a_30 :: []) hp_1 nx_2 (zQi g fun x_26 hp_24 nx_25 =>
  (zMt l g yJ13_indexOf cJ13_indexOf 4 (some .int) d 0 0 [va_rf r_23, .int x1, .int x2, .int x_26] hp_24 nx_25 (zQi g fun x_29 hp_27 nx_28 =>
  P_36 x_29 hp_27 nx_28))))))))))
set_option maxHeartbeats 40000000 in
theorem met_J7_indexOf_2 {l : Launch} {g : zG} {d : Nat} {h0 : Nat} {x1 : Int32} {x2 : Int32} {hp : zHp} {nx : Nat} {Post : Int32 → zHp → Nat → Prop} (hw : wp_J7_indexOf_2 l g d h0 x1 x2 hp nx Post) : zMt l g yJ7_indexOf_2 cJ7_indexOf_2 3 (some .int) (d + 1) 0 0 [.ref h0, .int x1, .int x2] hp nx (zQi g Post) := by
  refine z_start (by decide) (Nat.le_of_ble_eq_true rfl) ?_
  intro p e s m below meth c hk hr hin hH hz ls hl
  have hx := hk.1.1
  have hb := hk.1.2.1
  have hown := hk.1.2.2.2.1
  have hts := hk.1.2.2.2.2
  have hS : va_S (zAd g) s.heap s.heap [] := va_S.rf
  have hl : lv_has ls 3 [(0, va_rf (some h0)), (1, .int x1), (2, .int x2)] := hl
  unfold wp_J7_indexOf_2 at hw
  refine zr_aload_n (r := some h0) hx hb dJ7_indexOf_2_0 rfl (lv_at hl 0 rfl) ?_
  obtain ⟨a_33, ci_34, fs_35, er, he, hc, hw⟩ := zo_e hw
  obtain rfl := List.mem_singleton.mp hc
  refine zr_calli (zw_runV (As := []) hk hH hz hS hl.1 er hw (cwV 0 hts (lw_V q1481 q1482 q1483 q140 q1484) rfl rfl rfl (by decide +kernel) (z_room (Nat.le_of_ble_eq_true rfl))) he rfl rfl rfl (Nat.le_of_ble_eq_true rfl) dJ7_indexOf_2_1 ⟨Nat.le_of_ble_eq_true rfl, Nat.le_of_ble_eq_true rfl⟩) hS (fun x_3 hp_1 nx_2 hw H locs hH hz hS => ?_)
  obtain ⟨P_36, hP_36, hw⟩ := hw
  have hJ_36 : ∀ (x_4 : Int32) (hp_5 : zHp) (nx_6 : Nat) (H : Heap) (locs : List Loc) (ls : Array Slot), P_36 x_4 hp_5 nx_6 → lv_has ls 3 [(0, va_rf (some h0)), (1, .int x1), (2, .int x2)] → zHd g hp_5 H → H.size = nx_6 → va_S (zAd g) s.heap H locs → W p l e (zrm (d + 1) 0 0) s m ([.ref h0, .int x1, .int x2] : List Value).toArray below meth c H locs 0 0 (MQ below (zQi g Post) ([.ref h0, .int x1, .int x2] : List Value).toArray s 0 0 (zAd g)) (F0 m 36 ls [.int x_4]) := by
    intro x_4 hp_5 nx_6 H locs ls hw hl hH hz hS
    have hw := hP_36 x_4 hp_5 nx_6 hw
    exact zr_iret hk hr hH hz hS hw (Nat.le_of_ble_eq_true rfl) (Nat.le_of_ble_eq_true rfl) dJ7_indexOf_2_36
  refine lv_if_eq (tgt := 23) hx hb dJ7_indexOf_2_4 (by decide) (fun hc => ?_) (fun hc => ?_)
  · have hw := hw.1 hc
    refine zr_aload_n (r := some h0) hx hb dJ7_indexOf_2_23 rfl (lv_at hl 0 rfl) ?_
    obtain ⟨a_7, ci_8, fs_9, r_10, er, he, hc, hv, hw⟩ := zgR_e hw
    refine zw_get hk hH er he hv (fk_J7_9 hc) dJ7_indexOf_2_24 ?_
    refine lv_iload_n hx hb dJ7_indexOf_2_27 rfl (lv_at hl 1 rfl) ?_
    refine lv_iload_n hx hb dJ7_indexOf_2_28 rfl (lv_at hl 2 rfl) ?_
    refine zr_aload_n (r := some h0) hx hb dJ7_indexOf_2_29 rfl (lv_at hl 0 rfl) ?_
    obtain ⟨a_17, ci_18, fs_19, er, he, hc, hw⟩ := zo_e hw
    obtain rfl := List.mem_singleton.mp hc
    refine zr_calli (zw_runV (As := []) hk hH hz hS hl.1 er hw (cwV 0 hts (lw_V q1485 q465 q466 q140 q467) rfl rfl rfl (by decide +kernel) (z_room (Nat.le_of_ble_eq_true rfl))) he rfl rfl rfl (by simp only [List.map_cons, List.map_nil, z_cat]; exact Nat.le_of_ble_eq_true rfl) dJ7_indexOf_2_30 ⟨Nat.le_of_ble_eq_true rfl, Nat.le_of_ble_eq_true rfl⟩) hS (fun x_13 hp_11 nx_12 hw H locs hH hz hS => ?_)
    refine zr_calli (zr_runS (As := [va_rf r_10, .int x1, .int x2, .int x_13]) hk hH hz hS hl.1 hw (va_cwS 4 hts (lw_S q1497 q1498 q141 q1499) rfl rfl rfl (by decide +kernel) (z_room (Nat.le_of_ble_eq_true rfl))) rfl rfl (Nat.le_of_ble_eq_true rfl) dJ7_indexOf_2_33 ⟨Nat.le_of_ble_eq_true rfl, Nat.le_of_ble_eq_true rfl⟩) hS (fun x_16 hp_14 nx_15 hw H locs hH hz hS => ?_)
    exact hJ_36 x_16 hp_14 nx_15 _ _ _ hw hl hH hz hS
  · have hw := hw.2 hc
    refine zr_aload_n (r := some h0) hx hb dJ7_indexOf_2_7 rfl (lv_at hl 0 rfl) ?_
    obtain ⟨a_20, ci_21, fs_22, r_23, er, he, hc, hv, hw⟩ := zgR_e hw
    refine zw_get hk hH er he hv (fk_J7_9 hc) dJ7_indexOf_2_8 ?_
    refine lv_iload_n hx hb dJ7_indexOf_2_11 rfl (lv_at hl 1 rfl) ?_
    refine lv_iload_n hx hb dJ7_indexOf_2_12 rfl (lv_at hl 2 rfl) ?_
    refine zr_aload_n (r := some h0) hx hb dJ7_indexOf_2_13 rfl (lv_at hl 0 rfl) ?_
    obtain ⟨a_30, ci_31, fs_32, er, he, hc, hw⟩ := zo_e hw
    obtain rfl := List.mem_singleton.mp hc
    refine zr_calli (zw_runV (As := []) hk hH hz hS hl.1 er hw (cwV 0 hts (lw_V q1485 q465 q466 q140 q467) rfl rfl rfl (by decide +kernel) (z_room (Nat.le_of_ble_eq_true rfl))) he rfl rfl rfl (by simp only [List.map_cons, List.map_nil, z_cat]; exact Nat.le_of_ble_eq_true rfl) dJ7_indexOf_2_14 ⟨Nat.le_of_ble_eq_true rfl, Nat.le_of_ble_eq_true rfl⟩) hS (fun x_26 hp_24 nx_25 hw H locs hH hz hS => ?_)
    refine zr_calli (zr_runS (As := [va_rf r_23, .int x1, .int x2, .int x_26]) hk hH hz hS hl.1 hw (va_cwS 4 hts (lw_S q1486 q1487 q147 q1488) rfl rfl rfl (by decide +kernel) (z_room (Nat.le_of_ble_eq_true rfl))) rfl rfl (Nat.le_of_ble_eq_true rfl) dJ7_indexOf_2_17 ⟨Nat.le_of_ble_eq_true rfl, Nat.le_of_ble_eq_true rfl⟩) hS (fun x_29 hp_27 nx_28 hw H locs hH hz hS => ?_)
    refine lv_goto (tgt := 36) hx hb dJ7_indexOf_2_20 (by decide) ?_
    exact hJ_36 x_29 hp_27 nx_28 _ _ _ hw hl hH hz hS
def wp_J7_isLatin1 (l : Launch) (g : zG) (d : Nat) (h0 : Nat) (hp : zHp) (nx : Nat) (Post : Int32 → zHp → Nat → Prop) : Prop :=
  (∃ P_18 : Int32 → Prop, (∀ (x_1 : Int32), P_18 x_1 →
  (((x_1 = 0 ∨ x_1 = 1) ∧ Post x_1 hp nx))) ∧
  (∃ P_17 : Prop, (P_17 →
  P_18 (0 : Int32)) ∧
  (((1 : Int32) = 0 →
  P_17) ∧
  (¬ (1 : Int32) = 0 →
  (zgI hp (some h0) [40] 1 fun x_5 =>
  ((x_5 = 0 →
  P_18 (1 : Int32)) ∧
  (¬ x_5 = 0 →
  P_17)))))))
set_option maxHeartbeats 40000000 in
theorem met_J7_isLatin1 {l : Launch} {g : zG} {d : Nat} {h0 : Nat} {hp : zHp} {nx : Nat} {Post : Int32 → zHp → Nat → Prop} (hw : wp_J7_isLatin1 l g d h0 hp nx Post) : zMt l g yJ7_isLatin1 cJ7_isLatin1 1 (some .boolean) (d + 1) 0 0 [.ref h0] hp nx (zQi g Post) := by
  refine z_start (by decide) (Nat.le_of_ble_eq_true rfl) ?_
  intro p e s m below meth c hk hr hin hH hz ls hl
  have hx := hk.1.1
  have hb := hk.1.2.1
  have hown := hk.1.2.2.2.1
  have hts := hk.1.2.2.2.2
  have hS : va_S (zAd g) s.heap s.heap [] := va_S.rf
  have hl : lv_has ls 1 [(0, va_rf (some h0))] := hl
  unfold wp_J7_isLatin1 at hw
  refine zw_gets hk hS 2 rfl q472 dJ7_isLatin1_0 ?_
  obtain ⟨P_18, hP_18, hw⟩ := hw
  have hJ_18 : ∀ (x_1 : Int32) (H : Heap) (locs : List Loc) (ls : Array Slot), P_18 x_1 → lv_has ls 1 [(0, va_rf (some h0))] → zHd g hp H → H.size = nx → va_S (zAd g) s.heap H locs → W p l e (zrm (d + 1) 0 0) s m ([.ref h0] : List Value).toArray below meth c H locs 0 0 (MQ below (zQi g Post) ([.ref h0] : List Value).toArray s 0 0 (zAd g)) (F0 m 18 ls [.int x_1]) := by
    intro x_1 H locs ls hw hl hH hz hS
    have hw := hP_18 x_1 hw
    exact zr_zret hk hr hH hz hS hw.1 hw.2 (Nat.le_of_ble_eq_true rfl) (Nat.le_of_ble_eq_true rfl) dJ7_isLatin1_18
  obtain ⟨P_17, hP_17, hw⟩ := hw
  have hJ_17 : ∀  (H : Heap) (locs : List Loc) (ls : Array Slot), P_17  → lv_has ls 1 [(0, va_rf (some h0))] → zHd g hp H → H.size = nx → va_S (zAd g) s.heap H locs → W p l e (zrm (d + 1) 0 0) s m ([.ref h0] : List Value).toArray below meth c H locs 0 0 (MQ below (zQi g Post) ([.ref h0] : List Value).toArray s 0 0 (zAd g)) (F0 m 17 ls []) := by
    intro  H locs ls hw hl hH hz hS
    have hw := hP_17  hw
    refine lv_iconst (v := (0 : Int32)) hx hb dJ7_isLatin1_17 (by decide) ?_
    exact hJ_18 (0 : Int32) _ _ _ hw hl hH hz hS
  refine lv_if_eq (tgt := 17) hx hb dJ7_isLatin1_3 (by decide) (fun hc => ?_) (fun hc => ?_)
  · have hw := hw.1 hc
    exact hJ_17  _ _ _ hw hl hH hz hS
  · have hw := hw.2 hc
    refine zr_aload_n (r := some h0) hx hb dJ7_isLatin1_6 rfl (lv_at hl 0 rfl) ?_
    obtain ⟨a_2, ci_3, fs_4, x_5, er, he, hc, hv, hw⟩ := zgI_e hw
    refine zw_get hk hH er he hv (fk_J7_15 hc) dJ7_isLatin1_7 ?_
    refine lv_if_ne (tgt := 17) hx hb dJ7_isLatin1_10 (by decide) (fun hc => ?_) (fun hc => ?_)
    · have hw := hw.2 hc
      exact hJ_17  _ _ _ hw hl hH hz hS
    · have hw := hw.1 hc
      refine lv_iconst (v := (1 : Int32)) hx hb dJ7_isLatin1_13 (by decide) ?_
      refine lv_goto (tgt := 18) hx hb dJ7_isLatin1_14 (by decide) ?_
      exact hJ_18 (1 : Int32) _ _ _ hw hl hH hz hS
theorem fk_J7_19 {ci : Nat} (h : ci ∈ [40]) : zFk "java/lang/String" 19 ci 2 := by
  simp only [List.mem_cons, List.not_mem_nil, or_false] at h
  rcases h with rfl
  · exact ⟨RJ7, TJ7, 4, rfl, by decide, q583⟩
theorem fk_J7_23 {ci : Nat} (h : ci ∈ [40]) : zFk "java/lang/String" 23 ci 3 := by
  simp only [List.mem_cons, List.not_mem_nil, or_false] at h
  rcases h with rfl
  · exact ⟨RJ7, TJ7, 4, rfl, by decide, q584⟩
theorem fp_J7_19 {ci : Nat} (h : ci ∈ [40]) : zFp "java/lang/String" 19 ci 2 .int := by
  simp only [List.mem_cons, List.not_mem_nil, or_false] at h
  rcases h with rfl
  · exact ⟨RJ7, TJ7, 4, rfl, by decide, q583, rfl, by decide +kernel⟩
theorem fp_J7_23 {ci : Nat} (h : ci ∈ [40]) : zFp "java/lang/String" 23 ci 3 .boolean := by
  simp only [List.mem_cons, List.not_mem_nil, or_false] at h
  rcases h with rfl
  · exact ⟨RJ7, TJ7, 4, rfl, by decide, q584, rfl, by decide +kernel⟩
def wp_J7_hashCode (l : Launch) (g : zG) (d : Nat) (mc ms : Nat) (h0 : Nat) (hp : zHp) (nx : Nat) (Post : Int32 → zHp → Nat → Prop) : Prop :=
  (zgI hp (some h0) [40] 2 fun x_4 =>
  (∃ P_58 : Int32 → zHp → Nat → Nat → Nat → Prop, (∀ (x_5 : Int32) (hp_6 : zHp) (nx_7 : Nat) (kc_8 : Nat) (ks_9 : Nat), P_58 x_5 hp_6 nx_7 kc_8 ks_9 →
  (kc_8 ≤ mc ∧ ks_9 ≤ ms ∧ Post x_5 hp_6 nx_7)) ∧
  ((x_4 = 0 →
  (zgI hp (some h0) [40] 3 fun x_13 =>
  ((x_13 = 0 →
  (0 ≤ mc ∧ 0 ≤ ms ∧ zo hp (some h0) [40] fun a_49 ci_50 fs_51 => zMt l g yJ7_isLatin1 cJ7_isLatin1 1 (some .boolean) d 0 0 (.ref a_49 :: []) hp nx (zQi g fun x_16 hp_14 nx_15 =>
  (∃ P_40 : Int32 → Int32 → zHp → Nat → Nat → Nat → Prop, (∀ (x_17 : Int32) (x_18 : Int32) (hp_19 : zHp) (nx_20 : Nat) (kc_21 : Nat) (ks_22 : Nat), P_40 x_17 x_18 hp_19 nx_20 kc_21 ks_22 →
  ((x_18 = 0 →
  (zpt g hp_19 (some h0) [40] 3 (.int (1 : Int32)) fun hp_30 =>
  P_58 x_18 hp_30 nx_20 kc_21 ks_22)) ∧
  (¬ x_18 = 0 →
  (zpt g hp_19 (some h0) [40] 2 (.int x_18) fun hp_26 =>
  P_58 x_18 hp_26 nx_20 kc_21 ks_22)))) ∧
  ((x_16 = 0 →
  (zgR hp_14 (some h0) [40] 0 fun r_34 =>
  (∃ c_35 s_36 : Nat, 0 + c_35 ≤ mc ∧ 0 + s_36 ≤ ms ∧ zMt l g yJ8_hashCode cJ8_hashCode 1 (some .int) d c_35 s_36 [va_rf r_34] hp_14 nx_15 (zQi g fun x_39 hp_37 nx_38 =>
  P_40 x_4 x_39 hp_37 nx_38 (0 + c_35) (0 + s_36))))) ∧
  (¬ x_16 = 0 →
  (zgR hp_14 (some h0) [40] 0 fun r_43 =>
  (∃ c_44 s_45 : Nat, 0 + c_44 ≤ mc ∧ 0 + s_45 ≤ ms ∧ zMt l g yJ13_hashCode cJ13_hashCode 1 (some .int) d c_44 s_45 [va_rf r_43] hp_14 nx_15 (zQi g fun x_48 hp_46 nx_47 =>
  P_40 x_4 x_48 hp_46 nx_47 (0 + c_44) (0 + s_45)))))))))) ∧
  (¬ x_13 = 0 →
  P_58 x_4 hp nx 0 0)))) ∧
  (¬ x_4 = 0 →
  P_58 x_4 hp nx 0 0))))
set_option maxHeartbeats 40000000 in
theorem met_J7_hashCode {l : Launch} {g : zG} {d : Nat} {mc ms : Nat} {h0 : Nat} {hp : zHp} {nx : Nat} {Post : Int32 → zHp → Nat → Prop} (hw : wp_J7_hashCode l g d mc ms h0 hp nx Post) : zMt l g yJ7_hashCode cJ7_hashCode 2 (some .int) (d + 1) mc ms [.ref h0] hp nx (zQi g Post) := by
  refine z_start (by decide) (Nat.le_of_ble_eq_true rfl) ?_
  intro p e s m below meth c hk hr hin hH hz ls hl
  have hx := hk.1.1
  have hb := hk.1.2.1
  have hown := hk.1.2.2.2.1
  have hts := hk.1.2.2.2.2
  have hS : va_S (zAd g) s.heap s.heap [] := va_S.rf
  have hl : lv_has ls 2 [(0, va_rf (some h0))] := hl
  unfold wp_J7_hashCode at hw
  refine zr_aload_n (r := some h0) hx hb dJ7_hashCode_0 rfl (lv_at hl 0 rfl) ?_
  obtain ⟨a_1, ci_2, fs_3, x_4, er, he, hc, hv, hw⟩ := zgI_e hw
  refine zw_get hk hH er he hv (fk_J7_19 hc) dJ7_hashCode_1 ?_
  refine lv_istore_n (i := 1) (lv' := [(1, .int x_4), (0, va_rf (some h0))]) hx hb dJ7_hashCode_4 rfl hl (by decide) (by first | rfl | simp [List.filter_cons, z_cat, z_catI, z_catJ, z_catF, z_catD]) (fun ls hl => ?_)
  refine lv_iload_n hx hb dJ7_hashCode_5 rfl (lv_at hl 0 rfl) ?_
  obtain ⟨P_58, hP_58, hw⟩ := hw
  have hJ_58 : ∀ (x_5 : Int32) (hp_6 : zHp) (nx_7 : Nat) (kc_8 : Nat) (ks_9 : Nat) (H : Heap) (locs : List Loc) (ls : Array Slot), P_58 x_5 hp_6 nx_7 kc_8 ks_9 → lv_has ls 2 [(0, va_rf (some h0)), (1, .int x_5)] → zHd g hp_6 H → H.size = nx_7 → va_S (zAd g) s.heap H locs → W p l e (zrm (d + 1) mc ms) s m ([.ref h0] : List Value).toArray below meth c H locs kc_8 ks_9 (MQ below (zQi g Post) ([.ref h0] : List Value).toArray s mc ms (zAd g)) (F0 m 58 ls []) := by
    intro x_5 hp_6 nx_7 kc_8 ks_9 H locs ls hw hl hH hz hS
    have hw := hP_58 x_5 hp_6 nx_7 kc_8 ks_9 hw
    refine lv_iload_n hx hb dJ7_hashCode_58 rfl (lv_at hl 1 rfl) ?_
    obtain ⟨hkc, hks, hw⟩ := hw
    exact zr_iret hk hr hH hz hS hw hkc hks dJ7_hashCode_59
  refine lv_if_ne (tgt := 58) hx hb dJ7_hashCode_6 (by decide) (fun hc => ?_) (fun hc => ?_)
  · have hw := hw.2 hc
    exact hJ_58 x_4 hp nx 0 0 _ _ _ hw (lv_sub hl [1, 0] rfl) hH hz hS
  · have hw := hw.1 hc
    refine zr_aload_n (r := some h0) hx hb dJ7_hashCode_9 rfl (lv_at hl 1 rfl) ?_
    obtain ⟨a_10, ci_11, fs_12, x_13, er, he, hc, hv, hw⟩ := zgI_e hw
    refine zw_get hk hH er he hv (fk_J7_23 hc) dJ7_hashCode_10 ?_
    refine lv_if_ne (tgt := 58) hx hb dJ7_hashCode_13 (by decide) (fun hc => ?_) (fun hc => ?_)
    · have hw := hw.2 hc
      exact hJ_58 x_4 hp nx 0 0 _ _ _ hw (lv_sub hl [1, 0] rfl) hH hz hS
    · have hw := hw.1 hc
      refine zr_aload_n (r := some h0) hx hb dJ7_hashCode_16 rfl (lv_at hl 1 rfl) ?_
      obtain ⟨hcl, hsl, hw⟩ := hw
      obtain ⟨a_49, ci_50, fs_51, er, he, hc, hw⟩ := zo_e hw
      obtain rfl := List.mem_singleton.mp hc
      refine zr_calli (zw_runV (As := []) hk hH hz hS hl.1 er hw (cwV 0 hts (lw_V q1481 q1482 q1483 q140 q1484) rfl rfl rfl (by decide +kernel) (z_room (Nat.le_of_ble_eq_true rfl))) he rfl rfl rfl (Nat.le_of_ble_eq_true rfl) dJ7_hashCode_17 ⟨hcl, hsl⟩) hS (fun x_16 hp_14 nx_15 hw H locs hH hz hS => ?_)
      obtain ⟨P_40, hP_40, hw⟩ := hw
      have hJ_40 : ∀ (x_17 : Int32) (x_18 : Int32) (hp_19 : zHp) (nx_20 : Nat) (kc_21 : Nat) (ks_22 : Nat) (H : Heap) (locs : List Loc) (ls : Array Slot), P_40 x_17 x_18 hp_19 nx_20 kc_21 ks_22 → lv_has ls 2 [(0, va_rf (some h0)), (1, .int x_17)] → zHd g hp_19 H → H.size = nx_20 → va_S (zAd g) s.heap H locs → W p l e (zrm (d + 1) mc ms) s m ([.ref h0] : List Value).toArray below meth c H locs kc_21 ks_22 (MQ below (zQi g Post) ([.ref h0] : List Value).toArray s mc ms (zAd g)) (F0 m 40 ls [.int x_18]) := by
        intro x_17 x_18 hp_19 nx_20 kc_21 ks_22 H locs ls hw hl hH hz hS
        have hw := hP_40 x_17 x_18 hp_19 nx_20 kc_21 ks_22 hw
        refine lv_istore_n (i := 1) (lv' := [(1, .int x_18), (0, va_rf (some h0))]) hx hb dJ7_hashCode_40 rfl hl (by decide) (by first | rfl | simp [List.filter_cons, z_cat, z_catI, z_catJ, z_catF, z_catD]) (fun ls hl => ?_)
        refine lv_iload_n hx hb dJ7_hashCode_41 rfl (lv_at hl 0 rfl) ?_
        refine lv_if_ne (tgt := 53) hx hb dJ7_hashCode_42 (by decide) (fun hc => ?_) (fun hc => ?_)
        · have hw := hw.2 hc
          refine zr_aload_n (r := some h0) hx hb dJ7_hashCode_53 rfl (lv_at hl 1 rfl) ?_
          refine lv_iload_n hx hb dJ7_hashCode_54 rfl (lv_at hl 0 rfl) ?_
          obtain ⟨a_23, ci_24, fs_25, hp_26, er, he, hc, hA, hkl, eh, hw⟩ := zpt_e hw
          refine zw_put hk hH hz hS er he hA hkl eh (fp_J7_19 hc) rfl rfl dJ7_hashCode_55 (fun H locs hH hz hS => ?_)
          exact hJ_58 x_18 hp_26 nx_20 kc_21 ks_22 _ _ _ hw (lv_sub hl [1, 0] rfl) hH hz hS
        · have hw := hw.1 hc
          refine zr_aload_n (r := some h0) hx hb dJ7_hashCode_45 rfl (lv_at hl 1 rfl) ?_
          refine lv_iconst (v := (1 : Int32)) hx hb dJ7_hashCode_46 (by decide) ?_
          obtain ⟨a_27, ci_28, fs_29, hp_30, er, he, hc, hA, hkl, eh, hw⟩ := zpt_e hw
          refine zw_put hk hH hz hS er he hA hkl eh (fp_J7_23 hc) (z_nb (Or.inr rfl)) (z_fb (Or.inr rfl)) dJ7_hashCode_47 (fun H locs hH hz hS => ?_)
          refine lv_goto (tgt := 58) hx hb dJ7_hashCode_50 (by decide) ?_
          exact hJ_58 x_18 hp_30 nx_20 kc_21 ks_22 _ _ _ hw (lv_sub hl [1, 0] rfl) hH hz hS
      refine lv_if_eq (tgt := 33) hx hb dJ7_hashCode_20 (by decide) (fun hc => ?_) (fun hc => ?_)
      · have hw := hw.1 hc
        refine zr_aload_n (r := some h0) hx hb dJ7_hashCode_33 rfl (lv_at hl 1 rfl) ?_
        obtain ⟨a_31, ci_32, fs_33, r_34, er, he, hc, hv, hw⟩ := zgR_e hw
        refine zw_get hk hH er he hv (fk_J7_9 hc) dJ7_hashCode_34 ?_
        obtain ⟨c_35, s_36, hcl, hsl, hw⟩ := hw
        refine zr_calli (zr_runS (As := [va_rf r_34]) hk hH hz hS hl.1 hw (va_cwS 1 hts (lw_S q1722 q1723 q141 q1724) rfl rfl rfl (by decide +kernel) (z_room (Nat.le_of_ble_eq_true rfl))) rfl rfl (Nat.le_of_ble_eq_true rfl) dJ7_hashCode_37 ⟨hcl, hsl⟩) hS (fun x_39 hp_37 nx_38 hw H locs hH hz hS => ?_)
        exact hJ_40 x_4 x_39 hp_37 nx_38 (0 + c_35) (0 + s_36) _ _ _ hw (lv_sub hl [1, 0] rfl) hH hz hS
      · have hw := hw.2 hc
        refine zr_aload_n (r := some h0) hx hb dJ7_hashCode_23 rfl (lv_at hl 1 rfl) ?_
        obtain ⟨a_40, ci_41, fs_42, r_43, er, he, hc, hv, hw⟩ := zgR_e hw
        refine zw_get hk hH er he hv (fk_J7_9 hc) dJ7_hashCode_24 ?_
        obtain ⟨c_44, s_45, hcl, hsl, hw⟩ := hw
        refine zr_calli (zr_runS (As := [va_rf r_43]) hk hH hz hS hl.1 hw (va_cwS 1 hts (lw_S q1681 q1682 q147 q1683) rfl rfl rfl (by decide +kernel) (z_room (Nat.le_of_ble_eq_true rfl))) rfl rfl (Nat.le_of_ble_eq_true rfl) dJ7_hashCode_27 ⟨hcl, hsl⟩) hS (fun x_48 hp_46 nx_47 hw H locs hH hz hS => ?_)
        refine lv_goto (tgt := 40) hx hb dJ7_hashCode_30 (by decide) ?_
        exact hJ_40 x_4 x_48 hp_46 nx_47 (0 + c_44) (0 + s_45) _ _ _ hw (lv_sub hl [1, 0] rfl) hH hz hS
def wp_J7_charAt (l : Launch) (g : zG) (d : Nat) (h0 : Nat) (x1 : Int32) (hp : zHp) (nx : Nat) (Post : Int32 → zHp → Nat → Prop) : Prop :=
  (zo hp (some h0) [40] fun a_18 ci_19 fs_20 => zMt l g yJ7_isLatin1 cJ7_isLatin1 1 (some .boolean) d 0 0 (.ref a_18 :: []) hp nx (zQi g fun x_3 hp_1 nx_2 =>
  ((x_3 = 0 →
  (zgR hp_1 (some h0) [40] 0 fun r_7 =>
  (zMt l g yJ8_charAt cJ8_charAt 2 (some .char) d 0 0 [va_rf r_7, .int x1] hp_1 nx_2 (zQi g fun x_10 hp_8 nx_9 =>
  ((narrow .char (.int x_10) = .int x_10 ∧ Post x_10 hp_8 nx_9)))))) ∧
  (¬ x_3 = 0 →
  (zgR hp_1 (some h0) [40] 0 fun r_14 =>
  (zMt l g yJ13_charAt cJ13_charAt 2 (some .char) d 0 0 [va_rf r_14, .int x1] hp_1 nx_2 (zQi g fun x_17 hp_15 nx_16 =>
  ((narrow .char (.int x_17) = .int x_17 ∧ Post x_17 hp_15 nx_16)))))))))
set_option maxHeartbeats 40000000 in
theorem met_J7_charAt {l : Launch} {g : zG} {d : Nat} {h0 : Nat} {x1 : Int32} {hp : zHp} {nx : Nat} {Post : Int32 → zHp → Nat → Prop} (hw : wp_J7_charAt l g d h0 x1 hp nx Post) : zMt l g yJ7_charAt cJ7_charAt 2 (some .char) (d + 1) 0 0 [.ref h0, .int x1] hp nx (zQi g Post) := by
  refine z_start (by decide) (Nat.le_of_ble_eq_true rfl) ?_
  intro p e s m below meth c hk hr hin hH hz ls hl
  have hx := hk.1.1
  have hb := hk.1.2.1
  have hown := hk.1.2.2.2.1
  have hts := hk.1.2.2.2.2
  have hS : va_S (zAd g) s.heap s.heap [] := va_S.rf
  have hl : lv_has ls 2 [(0, va_rf (some h0)), (1, .int x1)] := hl
  unfold wp_J7_charAt at hw
  refine zr_aload_n (r := some h0) hx hb dJ7_charAt_0 rfl (lv_at hl 0 rfl) ?_
  obtain ⟨a_18, ci_19, fs_20, er, he, hc, hw⟩ := zo_e hw
  obtain rfl := List.mem_singleton.mp hc
  refine zr_calli (zw_runV (As := []) hk hH hz hS hl.1 er hw (cwV 0 hts (lw_V q1481 q1482 q1483 q140 q1484) rfl rfl rfl (by decide +kernel) (z_room (Nat.le_of_ble_eq_true rfl))) he rfl rfl rfl (Nat.le_of_ble_eq_true rfl) dJ7_charAt_1 ⟨Nat.le_of_ble_eq_true rfl, Nat.le_of_ble_eq_true rfl⟩) hS (fun x_3 hp_1 nx_2 hw H locs hH hz hS => ?_)
  refine lv_if_eq (tgt := 16) hx hb dJ7_charAt_4 (by decide) (fun hc => ?_) (fun hc => ?_)
  · have hw := hw.1 hc
    refine zr_aload_n (r := some h0) hx hb dJ7_charAt_16 rfl (lv_at hl 0 rfl) ?_
    obtain ⟨a_4, ci_5, fs_6, r_7, er, he, hc, hv, hw⟩ := zgR_e hw
    refine zw_get hk hH er he hv (fk_J7_9 hc) dJ7_charAt_17 ?_
    refine lv_iload_n hx hb dJ7_charAt_20 rfl (lv_at hl 1 rfl) ?_
    refine zr_calli (zr_runS (As := [va_rf r_7, .int x1]) hk hH hz hS hl.1 hw (va_cwS 2 hts (lw_S q1810 q1811 q141 q1812) rfl rfl rfl (by decide +kernel) (z_room (Nat.le_of_ble_eq_true rfl))) rfl rfl (Nat.le_of_ble_eq_true rfl) dJ7_charAt_21 ⟨Nat.le_of_ble_eq_true rfl, Nat.le_of_ble_eq_true rfl⟩) hS (fun x_10 hp_8 nx_9 hw H locs hH hz hS => ?_)
    exact zr_nret hk hr hH hz hS hw.1 hw.2 (Nat.le_of_ble_eq_true rfl) (Nat.le_of_ble_eq_true rfl) dJ7_charAt_24
  · have hw := hw.2 hc
    refine zr_aload_n (r := some h0) hx hb dJ7_charAt_7 rfl (lv_at hl 0 rfl) ?_
    obtain ⟨a_11, ci_12, fs_13, r_14, er, he, hc, hv, hw⟩ := zgR_e hw
    refine zw_get hk hH er he hv (fk_J7_9 hc) dJ7_charAt_8 ?_
    refine lv_iload_n hx hb dJ7_charAt_11 rfl (lv_at hl 1 rfl) ?_
    refine zr_calli (zr_runS (As := [va_rf r_14, .int x1]) hk hH hz hS hl.1 hw (va_cwS 2 hts (lw_S q1806 q1807 q147 q1808) rfl rfl rfl (by decide +kernel) (z_room (Nat.le_of_ble_eq_true rfl))) rfl rfl (Nat.le_of_ble_eq_true rfl) dJ7_charAt_12 ⟨Nat.le_of_ble_eq_true rfl, Nat.le_of_ble_eq_true rfl⟩) hS (fun x_17 hp_15 nx_16 hw H locs hH hz hS => ?_)
    exact zr_nret hk hr hH hz hS hw.1 hw.2 (Nat.le_of_ble_eq_true rfl) (Nat.le_of_ble_eq_true rfl) dJ7_charAt_15
def wp_J9_newLength (l : Launch) (g : zG) (d : Nat) (x0 : Int32) (x1 : Int32) (x2 : Int32) (hp : zHp) (nx : Nat) (Post : Int32 → zHp → Nat → Prop) : Prop :=
  (zMt l g yJ10_max cJ10_max 2 (some .int) d 0 0 [.int x1, .int x2] hp nx (zQi g fun x_3 hp_1 nx_2 =>
  (∀ x_4 : Int32, x_4 = x0 + x_3 →
  (∃ P_21 : Int32 → zHp → Nat → Prop, (∀ (x_5 : Int32) (hp_6 : zHp) (nx_7 : Nat), P_21 x_5 hp_6 nx_7 →
  (zMt l g yJ9_hugeLength cJ9_hugeLength 3 (some .int) d 0 0 [.int x0, .int x1] hp_6 nx_7 (zQi g fun x_10 hp_8 nx_9 =>
  (Post x_10 hp_8 nx_9)))) ∧
  ((x_4 ≤ (0 : Int32) →
  P_21 x_4 hp_1 nx_2) ∧
  (¬ x_4 ≤ (0 : Int32) →
  (((2147483639 : Int32) < x_4 →
  P_21 x_4 hp_1 nx_2) ∧
  (¬ (2147483639 : Int32) < x_4 →
  (Post x_4 hp_1 nx_2)))))))))
set_option maxHeartbeats 40000000 in
theorem met_J9_newLength {l : Launch} {g : zG} {d : Nat} {x0 : Int32} {x1 : Int32} {x2 : Int32} {hp : zHp} {nx : Nat} {Post : Int32 → zHp → Nat → Prop} (hw : wp_J9_newLength l g d x0 x1 x2 hp nx Post) : zMt l g yJ9_newLength cJ9_newLength 4 (some .int) (d + 1) 0 0 [.int x0, .int x1, .int x2] hp nx (zQi g Post) := by
  refine z_start (by decide) (Nat.le_of_ble_eq_true rfl) ?_
  intro p e s m below meth c hk hr hin hH hz ls hl
  have hx := hk.1.1
  have hb := hk.1.2.1
  have hown := hk.1.2.2.2.1
  have hts := hk.1.2.2.2.2
  have hS : va_S (zAd g) s.heap s.heap [] := va_S.rf
  have hl : lv_has ls 4 [(0, .int x0), (1, .int x1), (2, .int x2)] := hl
  unfold wp_J9_newLength at hw
  refine lv_iload_n hx hb dJ9_newLength_0 rfl (lv_at hl 0 rfl) ?_
  refine lv_iload_n hx hb dJ9_newLength_1 rfl (lv_at hl 1 rfl) ?_
  refine lv_iload_n hx hb dJ9_newLength_2 rfl (lv_at hl 2 rfl) ?_
  refine zr_calli (zr_runS (As := [.int x1, .int x2]) hk hH hz hS hl.1 hw (va_cwS 2 hts (lw_S q409 q410 q143 q411) rfl rfl rfl (by decide +kernel) (z_room (Nat.le_of_ble_eq_true rfl))) rfl rfl (Nat.le_of_ble_eq_true rfl) dJ9_newLength_3 ⟨Nat.le_of_ble_eq_true rfl, Nat.le_of_ble_eq_true rfl⟩) hS (fun x_3 hp_1 nx_2 hw H locs hH hz hS => ?_)
  refine lv_iadd hx hb dJ9_newLength_6 ?_
  refine lv_topi (fun x_4 ex_4 => ?_)
  have hw := hw x_4 ex_4
  refine lv_istore_n (i := 3) (lv' := [(3, .int x_4), (0, .int x0), (1, .int x1), (2, .int x2)]) hx hb dJ9_newLength_7 rfl hl (by decide) (by first | rfl | simp [List.filter_cons, z_cat, z_catI, z_catJ, z_catF, z_catD]) (fun ls hl => ?_)
  refine lv_iconst (v := (0 : Int32)) hx hb dJ9_newLength_8 (by decide) ?_
  refine lv_iload_n hx hb dJ9_newLength_9 rfl (lv_at hl 0 rfl) ?_
  obtain ⟨P_21, hP_21, hw⟩ := hw
  have hJ_21 : ∀ (x_5 : Int32) (hp_6 : zHp) (nx_7 : Nat) (H : Heap) (locs : List Loc) (ls : Array Slot), P_21 x_5 hp_6 nx_7 → lv_has ls 4 [(0, .int x0), (1, .int x1), (2, .int x2), (3, .int x_5)] → zHd g hp_6 H → H.size = nx_7 → va_S (zAd g) s.heap H locs → W p l e (zrm (d + 1) 0 0) s m ([.int x0, .int x1, .int x2] : List Value).toArray below meth c H locs 0 0 (MQ below (zQi g Post) ([.int x0, .int x1, .int x2] : List Value).toArray s 0 0 (zAd g)) (F0 m 21 ls []) := by
    intro x_5 hp_6 nx_7 H locs ls hw hl hH hz hS
    have hw := hP_21 x_5 hp_6 nx_7 hw
    refine lv_iload_n hx hb dJ9_newLength_21 rfl (lv_at hl 0 rfl) ?_
    refine lv_iload_n hx hb dJ9_newLength_22 rfl (lv_at hl 1 rfl) ?_
    refine zr_calli (zr_runS (As := [.int x0, .int x1]) hk hH hz hS hl.1 hw (va_cwS 2 hts (lw_S q413 q414 q142 q415) rfl rfl rfl (by decide +kernel) (z_room (Nat.le_of_ble_eq_true rfl))) rfl rfl (Nat.le_of_ble_eq_true rfl) dJ9_newLength_23 ⟨Nat.le_of_ble_eq_true rfl, Nat.le_of_ble_eq_true rfl⟩) hS (fun x_10 hp_8 nx_9 hw H locs hH hz hS => ?_)
    exact zr_iret hk hr hH hz hS hw (Nat.le_of_ble_eq_true rfl) (Nat.le_of_ble_eq_true rfl) dJ9_newLength_26
  refine lv_icmp_ge (tgt := 21) hx hb dJ9_newLength_10 (by decide) (fun hc => ?_) (fun hc => ?_)
  · have hw := hw.1 hc
    exact hJ_21 x_4 hp_1 nx_2 _ _ _ hw (lv_sub hl [1, 2, 3, 0] rfl) hH hz hS
  · have hw := hw.2 hc
    refine lv_iload_n hx hb dJ9_newLength_13 rfl (lv_at hl 0 rfl) ?_
    refine lv_ldc hx hb hown (hts _ q412) dJ9_newLength_14 ?_
    refine lv_icmp_gt (tgt := 21) hx hb dJ9_newLength_16 (by decide) (fun hc => ?_) (fun hc => ?_)
    · have hw := hw.1 hc
      exact hJ_21 x_4 hp_1 nx_2 _ _ _ hw (lv_sub hl [1, 2, 3, 0] rfl) hH hz hS
    · have hw := hw.2 hc
      refine lv_iload_n hx hb dJ9_newLength_19 rfl (lv_at hl 0 rfl) ?_
      exact zr_iret hk hr hH hz hS hw (Nat.le_of_ble_eq_true rfl) (Nat.le_of_ble_eq_true rfl) dJ9_newLength_20
def wp_J9_hugeLength (l : Launch) (g : zG) (d : Nat) (x0 : Int32) (x1 : Int32) (hp : zHp) (nx : Nat) (Post : Int32 → zHp → Nat → Prop) : Prop :=
  (∀ x_1 : Int32, x_1 = x0 + x1 →
  ((0 ≤ x_1 →
  (((2147483639 : Int32) < x_1 →
  (Post x_1 hp nx)) ∧
  (¬ (2147483639 : Int32) < x_1 →
  (Post (2147483639 : Int32) hp nx)))) ∧
  (¬ 0 ≤ x_1 →
  False)))
set_option maxHeartbeats 40000000 in
theorem met_J9_hugeLength {l : Launch} {g : zG} {d : Nat} {x0 : Int32} {x1 : Int32} {hp : zHp} {nx : Nat} {Post : Int32 → zHp → Nat → Prop} (hw : wp_J9_hugeLength l g d x0 x1 hp nx Post) : zMt l g yJ9_hugeLength cJ9_hugeLength 3 (some .int) (d + 1) 0 0 [.int x0, .int x1] hp nx (zQi g Post) := by
  refine z_start (by decide) (Nat.le_of_ble_eq_true rfl) ?_
  intro p e s m below meth c hk hr hin hH hz ls hl
  have hx := hk.1.1
  have hb := hk.1.2.1
  have hown := hk.1.2.2.2.1
  have hts := hk.1.2.2.2.2
  have hS : va_S (zAd g) s.heap s.heap [] := va_S.rf
  have hl : lv_has ls 3 [(0, .int x0), (1, .int x1)] := hl
  unfold wp_J9_hugeLength at hw
  refine lv_iload_n hx hb dJ9_hugeLength_0 rfl (lv_at hl 0 rfl) ?_
  refine lv_iload_n hx hb dJ9_hugeLength_1 rfl (lv_at hl 1 rfl) ?_
  refine lv_iadd hx hb dJ9_hugeLength_2 ?_
  refine lv_topi (fun x_1 ex_1 => ?_)
  have hw := hw x_1 ex_1
  refine lv_istore_n (i := 2) (lv' := [(2, .int x_1), (0, .int x0), (1, .int x1)]) hx hb dJ9_hugeLength_3 rfl hl (by decide) (by first | rfl | simp [List.filter_cons, z_cat, z_catI, z_catJ, z_catF, z_catD]) (fun ls hl => ?_)
  refine lv_iload_n hx hb dJ9_hugeLength_4 rfl (lv_at hl 0 rfl) ?_
  refine lv_if_ge (tgt := 49) hx hb dJ9_hugeLength_5 (by decide) (fun hc => ?_) (fun hc => ?_)
  · have hw := hw.1 hc
    refine lv_iload_n hx hb dJ9_hugeLength_49 rfl (lv_at hl 0 rfl) ?_
    refine lv_ldc hx hb hown (hts _ q412) dJ9_hugeLength_50 ?_
    refine lv_icmp_gt (tgt := 58) hx hb dJ9_hugeLength_52 (by decide) (fun hc => ?_) (fun hc => ?_)
    · have hw := hw.1 hc
      refine lv_iload_n hx hb dJ9_hugeLength_58 rfl (lv_at hl 0 rfl) ?_
      exact zr_iret hk hr hH hz hS hw (Nat.le_of_ble_eq_true rfl) (Nat.le_of_ble_eq_true rfl) dJ9_hugeLength_59
    · have hw := hw.2 hc
      refine lv_ldc hx hb hown (hts _ q412) dJ9_hugeLength_55 ?_
      exact zr_iret hk hr hH hz hS hw (Nat.le_of_ble_eq_true rfl) (Nat.le_of_ble_eq_true rfl) dJ9_hugeLength_57
  · have hw := hw.2 hc
    exact hw.elim
def wp_J9_signedHashCode (l : Launch) (g : zG) (d : Nat) (x0 : Int32) (r1 : Option Nat) (x2 : Int32) (x3 : Int32) (hp : zHp) (nx : Nat) (Post : Int32 → zHp → Nat → Prop) : Prop :=
  (∀ x_1 : Int32, x_1 = x2 + x3 →
  (∃ I_8 : Nat → Int32 → Int32 → Int32 → Prop, (∃ n_13, I_8 n_13 x0 x_1 x2) ∧ ∀ (n_5 : Nat) (x_2 : Int32) (x_3 : Int32) (x_4 : Int32), I_8 n_5 x_2 x_3 x_4 →
  ((x_3 ≤ x_4 →
  (Post x_2 hp nx)) ∧
  (¬ x_3 ≤ x_4 →
  (zaI (g.2.1 2) hp r1 fun a_6 n_7 f_8 => vp_in x_4 n_7 ∧ ∀ x_9 : Int32, x_9 = f_8 x_4.toNatClampNeg →
  (∀ x_10 : Int32, x_10 = ((31 : Int32) * x_2) + (x_9 &&& (255 : Int32)) →
  (∀ x_11 : Int32, x_11 = x_4 + (1 : Int32) →
  (∃ k_12, k_12 < n_5 ∧ I_8 k_12 x_10 x_3 x_11))))))))
set_option maxHeartbeats 40000000 in
theorem met_J9_signedHashCode {l : Launch} {g : zG} {d : Nat} {x0 : Int32} {r1 : Option Nat} {x2 : Int32} {x3 : Int32} {hp : zHp} {nx : Nat} {Post : Int32 → zHp → Nat → Prop} (hw : wp_J9_signedHashCode l g d x0 r1 x2 x3 hp nx Post) : zMt l g yJ9_signedHashCode cJ9_signedHashCode 6 (some .int) (d + 1) 0 0 [.int x0, va_rf r1, .int x2, .int x3] hp nx (zQi g Post) := by
  refine z_start (by decide) (by cases r1 <;> exact Nat.le_of_ble_eq_true rfl) ?_
  intro p e s m below meth c hk hr hin hH hz ls hl
  have hx := hk.1.1
  have hb := hk.1.2.1
  have hown := hk.1.2.2.2.1
  have hts := hk.1.2.2.2.2
  have hS : va_S (zAd g) s.heap s.heap [] := va_S.rf
  have hl : lv_has ls 6 [(0, .int x0), (1, va_rf r1), (2, .int x2), (3, .int x3)] := by cases r1 <;> exact hl
  unfold wp_J9_signedHashCode at hw
  refine lv_iload_n hx hb dJ9_signedHashCode_0 rfl (lv_at hl 2 rfl) ?_
  refine lv_iload_n hx hb dJ9_signedHashCode_1 rfl (lv_at hl 3 rfl) ?_
  refine lv_iadd hx hb dJ9_signedHashCode_2 ?_
  refine lv_topi (fun x_1 ex_1 => ?_)
  have hw := hw x_1 ex_1
  refine lv_istore (lv' := [(4, .int x_1), (0, .int x0), (1, va_rf r1), (2, .int x2), (3, .int x3)]) hx hb dJ9_signedHashCode_3 hl (by decide) (by first | rfl | simp [List.filter_cons, z_cat, z_catI, z_catJ, z_catF, z_catD]) (fun ls hl => ?_)
  refine lv_iload_n hx hb dJ9_signedHashCode_5 rfl (lv_at hl 3 rfl) ?_
  refine lv_istore (lv' := [(5, .int x2), (4, .int x_1), (0, .int x0), (1, va_rf r1), (2, .int x2), (3, .int x3)]) hx hb dJ9_signedHashCode_6 hl (by decide) (by first | rfl | simp [List.filter_cons, z_cat, z_catI, z_catJ, z_catF, z_catD]) (fun ls hl => ?_)
  obtain ⟨I_8, ⟨n_13, hI⟩, hB_8⟩ := hw
  have hL_8 : ∀ (n_5 : Nat) (x_2 : Int32) (x_3 : Int32) (x_4 : Int32) (H : Heap) (locs : List Loc) (ls : Array Slot), I_8 n_5 x_2 x_3 x_4 → lv_has ls 6 [(0, .int x_2), (1, va_rf r1), (2, .int x2), (3, .int x3), (4, .int x_3), (5, .int x_4)] → zHd g hp H → H.size = nx → va_S (zAd g) s.heap H locs → W p l e (zrm (d + 1) 0 0) s m ([.int x0, va_rf r1, .int x2, .int x3] : List Value).toArray below meth c H locs 0 0 (MQ below (zQi g Post) ([.int x0, va_rf r1, .int x2, .int x3] : List Value).toArray s 0 0 (zAd g)) (F0 m 8 ls []) := by
    intro n_5
    induction n_5 using Nat.strongRecOn with
    | _ n_5 ih_8 =>
      intro x_2 x_3 x_4 H locs ls hw hl hH hz hS
      have hw := hB_8 n_5 x_2 x_3 x_4 hw
      refine lv_iload hx hb dJ9_signedHashCode_8 (lv_at hl 5 rfl) ?_
      refine lv_iload hx hb dJ9_signedHashCode_10 (lv_at hl 4 rfl) ?_
      refine lv_icmp_ge (tgt := 35) hx hb dJ9_signedHashCode_12 (by decide) (fun hc => ?_) (fun hc => ?_)
      · have hw := hw.1 hc
        refine lv_iload_n hx hb dJ9_signedHashCode_35 rfl (lv_at hl 0 rfl) ?_
        exact zr_iret hk hr hH hz hS hw (Nat.le_of_ble_eq_true rfl) (Nat.le_of_ble_eq_true rfl) dJ9_signedHashCode_36
      · have hw := hw.2 hc
        refine lv_bipush (v := (31 : Int32)) hx hb dJ9_signedHashCode_15 (by decide) ?_
        refine lv_iload_n hx hb dJ9_signedHashCode_17 rfl (lv_at hl 0 rfl) ?_
        refine lv_imul hx hb dJ9_signedHashCode_18 ?_
        refine zr_aload_n (r := r1) hx hb dJ9_signedHashCode_19 rfl (lv_at hl 1 rfl) ?_
        refine lv_iload hx hb dJ9_signedHashCode_20 (lv_at hl 5 rfl) ?_
        obtain ⟨a_6, n_7, f_8, er, he, hi, hw⟩ := zaI_e hw
        have hw := hw _ rfl
        refine zw_bald hk hH er he hi dJ9_signedHashCode_22 ?_
        generalize f_8 x_4.toNatClampNeg = x_9 at hw ⊢
        refine lv_sipush (v := (255 : Int32)) hx hb dJ9_signedHashCode_23 (by decide) ?_
        refine lv_iand hx hb dJ9_signedHashCode_26 ?_
        refine lv_iadd hx hb dJ9_signedHashCode_27 ?_
        refine lv_topi (fun x_10 ex_10 => ?_)
        have hw := hw x_10 ex_10
        refine lv_istore_n (i := 0) (lv' := [(0, .int x_10), (1, va_rf r1), (2, .int x2), (3, .int x3), (4, .int x_3), (5, .int x_4)]) hx hb dJ9_signedHashCode_28 rfl hl (by decide) (by first | rfl | simp [List.filter_cons, z_cat, z_catI, z_catJ, z_catF, z_catD]) (fun ls hl => ?_)
        obtain ⟨x_11, ex_11⟩ : ∃ y : Int32, y = x_4 + (1 : Int32) := ⟨_, rfl⟩
        have hw := hw x_11 ex_11
        refine lv_iinc (v := x_11) (lv' := [(5, .int x_11), (0, .int x_10), (1, va_rf r1), (2, .int x2), (3, .int x3), (4, .int x_3)]) hx hb dJ9_signedHashCode_29 hl (k := 5) rfl (by rw [ex_11]; rfl) (by decide) (by first | rfl | simp [List.filter_cons, z_cat, z_catI, z_catJ, z_catF, z_catD]) (fun ls hl => ?_)
        refine lv_goto (tgt := 8) hx hb dJ9_signedHashCode_32 (by decide) ?_
        obtain ⟨k_12, hlt, hw⟩ := hw
        exact ih_8 k_12 hlt x_10 x_3 x_11 _ _ _ hw (lv_sub hl [1, 2, 3, 4, 5, 0] rfl) hH hz hS
  exact hL_8 n_13 x0 x_1 x2 _ _ _ hI (lv_sub hl [2, 3, 4, 5, 1, 0] rfl) hH hz hS
def wp_J9_hashCode_2 (l : Launch) (g : zG) (d : Nat) (x0 : Int32) (r1 : Option Nat) (x2 : Int32) (x3 : Int32) (hp : zHp) (nx : Nat) (Post : Int32 → zHp → Nat → Prop) : Prop :=
  (∀ x_1 : Int32, x_1 = x2 + x3 →
  (∃ I_8 : Nat → Int32 → Int32 → Int32 → Prop, (∃ n_13, I_8 n_13 x0 x_1 x2) ∧ ∀ (n_5 : Nat) (x_2 : Int32) (x_3 : Int32) (x_4 : Int32), I_8 n_5 x_2 x_3 x_4 →
  ((x_3 ≤ x_4 →
  (Post x_2 hp nx)) ∧
  (¬ x_3 ≤ x_4 →
  (zaI (g.2.1 2) hp r1 fun a_6 n_7 f_8 => vp_in x_4 n_7 ∧ ∀ x_9 : Int32, x_9 = f_8 x_4.toNatClampNeg →
  (∀ x_10 : Int32, x_10 = ((31 : Int32) * x_2) + x_9 →
  (∀ x_11 : Int32, x_11 = x_4 + (1 : Int32) →
  (∃ k_12, k_12 < n_5 ∧ I_8 k_12 x_10 x_3 x_11))))))))
set_option maxHeartbeats 40000000 in
theorem met_J9_hashCode_2 {l : Launch} {g : zG} {d : Nat} {x0 : Int32} {r1 : Option Nat} {x2 : Int32} {x3 : Int32} {hp : zHp} {nx : Nat} {Post : Int32 → zHp → Nat → Prop} (hw : wp_J9_hashCode_2 l g d x0 r1 x2 x3 hp nx Post) : zMt l g yJ9_hashCode_2 cJ9_hashCode_2 6 (some .int) (d + 1) 0 0 [.int x0, va_rf r1, .int x2, .int x3] hp nx (zQi g Post) := by
  refine z_start (by decide) (by cases r1 <;> exact Nat.le_of_ble_eq_true rfl) ?_
  intro p e s m below meth c hk hr hin hH hz ls hl
  have hx := hk.1.1
  have hb := hk.1.2.1
  have hown := hk.1.2.2.2.1
  have hts := hk.1.2.2.2.2
  have hS : va_S (zAd g) s.heap s.heap [] := va_S.rf
  have hl : lv_has ls 6 [(0, .int x0), (1, va_rf r1), (2, .int x2), (3, .int x3)] := by cases r1 <;> exact hl
  unfold wp_J9_hashCode_2 at hw
  refine lv_iload_n hx hb dJ9_hashCode_2_0 rfl (lv_at hl 2 rfl) ?_
  refine lv_iload_n hx hb dJ9_hashCode_2_1 rfl (lv_at hl 3 rfl) ?_
  refine lv_iadd hx hb dJ9_hashCode_2_2 ?_
  refine lv_topi (fun x_1 ex_1 => ?_)
  have hw := hw x_1 ex_1
  refine lv_istore (lv' := [(4, .int x_1), (0, .int x0), (1, va_rf r1), (2, .int x2), (3, .int x3)]) hx hb dJ9_hashCode_2_3 hl (by decide) (by first | rfl | simp [List.filter_cons, z_cat, z_catI, z_catJ, z_catF, z_catD]) (fun ls hl => ?_)
  refine lv_iload_n hx hb dJ9_hashCode_2_5 rfl (lv_at hl 3 rfl) ?_
  refine lv_istore (lv' := [(5, .int x2), (4, .int x_1), (0, .int x0), (1, va_rf r1), (2, .int x2), (3, .int x3)]) hx hb dJ9_hashCode_2_6 hl (by decide) (by first | rfl | simp [List.filter_cons, z_cat, z_catI, z_catJ, z_catF, z_catD]) (fun ls hl => ?_)
  obtain ⟨I_8, ⟨n_13, hI⟩, hB_8⟩ := hw
  have hL_8 : ∀ (n_5 : Nat) (x_2 : Int32) (x_3 : Int32) (x_4 : Int32) (H : Heap) (locs : List Loc) (ls : Array Slot), I_8 n_5 x_2 x_3 x_4 → lv_has ls 6 [(0, .int x_2), (1, va_rf r1), (2, .int x2), (3, .int x3), (4, .int x_3), (5, .int x_4)] → zHd g hp H → H.size = nx → va_S (zAd g) s.heap H locs → W p l e (zrm (d + 1) 0 0) s m ([.int x0, va_rf r1, .int x2, .int x3] : List Value).toArray below meth c H locs 0 0 (MQ below (zQi g Post) ([.int x0, va_rf r1, .int x2, .int x3] : List Value).toArray s 0 0 (zAd g)) (F0 m 8 ls []) := by
    intro n_5
    induction n_5 using Nat.strongRecOn with
    | _ n_5 ih_8 =>
      intro x_2 x_3 x_4 H locs ls hw hl hH hz hS
      have hw := hB_8 n_5 x_2 x_3 x_4 hw
      refine lv_iload hx hb dJ9_hashCode_2_8 (lv_at hl 5 rfl) ?_
      refine lv_iload hx hb dJ9_hashCode_2_10 (lv_at hl 4 rfl) ?_
      refine lv_icmp_ge (tgt := 31) hx hb dJ9_hashCode_2_12 (by decide) (fun hc => ?_) (fun hc => ?_)
      · have hw := hw.1 hc
        refine lv_iload_n hx hb dJ9_hashCode_2_31 rfl (lv_at hl 0 rfl) ?_
        exact zr_iret hk hr hH hz hS hw (Nat.le_of_ble_eq_true rfl) (Nat.le_of_ble_eq_true rfl) dJ9_hashCode_2_32
      · have hw := hw.2 hc
        refine lv_bipush (v := (31 : Int32)) hx hb dJ9_hashCode_2_15 (by decide) ?_
        refine lv_iload_n hx hb dJ9_hashCode_2_17 rfl (lv_at hl 0 rfl) ?_
        refine lv_imul hx hb dJ9_hashCode_2_18 ?_
        refine zr_aload_n (r := r1) hx hb dJ9_hashCode_2_19 rfl (lv_at hl 1 rfl) ?_
        refine lv_iload hx hb dJ9_hashCode_2_20 (lv_at hl 5 rfl) ?_
        obtain ⟨a_6, n_7, f_8, er, he, hi, hw⟩ := zaI_e hw
        have hw := hw _ rfl
        refine zw_bald hk hH er he hi dJ9_hashCode_2_22 ?_
        generalize f_8 x_4.toNatClampNeg = x_9 at hw ⊢
        refine lv_iadd hx hb dJ9_hashCode_2_23 ?_
        refine lv_topi (fun x_10 ex_10 => ?_)
        have hw := hw x_10 ex_10
        refine lv_istore_n (i := 0) (lv' := [(0, .int x_10), (1, va_rf r1), (2, .int x2), (3, .int x3), (4, .int x_3), (5, .int x_4)]) hx hb dJ9_hashCode_2_24 rfl hl (by decide) (by first | rfl | simp [List.filter_cons, z_cat, z_catI, z_catJ, z_catF, z_catD]) (fun ls hl => ?_)
        obtain ⟨x_11, ex_11⟩ : ∃ y : Int32, y = x_4 + (1 : Int32) := ⟨_, rfl⟩
        have hw := hw x_11 ex_11
        refine lv_iinc (v := x_11) (lv' := [(5, .int x_11), (0, .int x_10), (1, va_rf r1), (2, .int x2), (3, .int x3), (4, .int x_3)]) hx hb dJ9_hashCode_2_25 hl (k := 5) rfl (by rw [ex_11]; rfl) (by decide) (by first | rfl | simp [List.filter_cons, z_cat, z_catI, z_catJ, z_catF, z_catD]) (fun ls hl => ?_)
        refine lv_goto (tgt := 8) hx hb dJ9_hashCode_2_28 (by decide) ?_
        obtain ⟨k_12, hlt, hw⟩ := hw
        exact ih_8 k_12 hlt x_10 x_3 x_11 _ _ _ hw (lv_sub hl [1, 2, 3, 4, 5, 0] rfl) hH hz hS
  exact hL_8 n_13 x0 x_1 x2 _ _ _ hI (lv_sub hl [2, 3, 4, 5, 1, 0] rfl) hH hz hS
def wp_J9_hashCode_4 (l : Launch) (g : zG) (d : Nat) (x0 : Int32) (r1 : Option Nat) (x2 : Int32) (x3 : Int32) (hp : zHp) (nx : Nat) (Post : Int32 → zHp → Nat → Prop) : Prop :=
  (∀ x_1 : Int32, x_1 = x2 + x3 →
  (∃ I_8 : Nat → Int32 → Int32 → Int32 → Prop, (∃ n_13, I_8 n_13 x0 x_1 x2) ∧ ∀ (n_5 : Nat) (x_2 : Int32) (x_3 : Int32) (x_4 : Int32), I_8 n_5 x_2 x_3 x_4 →
  ((x_3 ≤ x_4 →
  (Post x_2 hp nx)) ∧
  (¬ x_3 ≤ x_4 →
  (zaI (g.2.1 0) hp r1 fun a_6 n_7 f_8 => vp_in x_4 n_7 ∧ ∀ x_9 : Int32, x_9 = f_8 x_4.toNatClampNeg →
  (∀ x_10 : Int32, x_10 = ((31 : Int32) * x_2) + x_9 →
  (∀ x_11 : Int32, x_11 = x_4 + (1 : Int32) →
  (∃ k_12, k_12 < n_5 ∧ I_8 k_12 x_10 x_3 x_11))))))))
set_option maxHeartbeats 40000000 in
theorem met_J9_hashCode_4 {l : Launch} {g : zG} {d : Nat} {x0 : Int32} {r1 : Option Nat} {x2 : Int32} {x3 : Int32} {hp : zHp} {nx : Nat} {Post : Int32 → zHp → Nat → Prop} (hw : wp_J9_hashCode_4 l g d x0 r1 x2 x3 hp nx Post) : zMt l g yJ9_hashCode_4 cJ9_hashCode_4 6 (some .int) (d + 1) 0 0 [.int x0, va_rf r1, .int x2, .int x3] hp nx (zQi g Post) := by
  refine z_start (by decide) (by cases r1 <;> exact Nat.le_of_ble_eq_true rfl) ?_
  intro p e s m below meth c hk hr hin hH hz ls hl
  have hx := hk.1.1
  have hb := hk.1.2.1
  have hown := hk.1.2.2.2.1
  have hts := hk.1.2.2.2.2
  have hS : va_S (zAd g) s.heap s.heap [] := va_S.rf
  have hl : lv_has ls 6 [(0, .int x0), (1, va_rf r1), (2, .int x2), (3, .int x3)] := by cases r1 <;> exact hl
  unfold wp_J9_hashCode_4 at hw
  refine lv_iload_n hx hb dJ9_hashCode_4_0 rfl (lv_at hl 2 rfl) ?_
  refine lv_iload_n hx hb dJ9_hashCode_4_1 rfl (lv_at hl 3 rfl) ?_
  refine lv_iadd hx hb dJ9_hashCode_4_2 ?_
  refine lv_topi (fun x_1 ex_1 => ?_)
  have hw := hw x_1 ex_1
  refine lv_istore (lv' := [(4, .int x_1), (0, .int x0), (1, va_rf r1), (2, .int x2), (3, .int x3)]) hx hb dJ9_hashCode_4_3 hl (by decide) (by first | rfl | simp [List.filter_cons, z_cat, z_catI, z_catJ, z_catF, z_catD]) (fun ls hl => ?_)
  refine lv_iload_n hx hb dJ9_hashCode_4_5 rfl (lv_at hl 3 rfl) ?_
  refine lv_istore (lv' := [(5, .int x2), (4, .int x_1), (0, .int x0), (1, va_rf r1), (2, .int x2), (3, .int x3)]) hx hb dJ9_hashCode_4_6 hl (by decide) (by first | rfl | simp [List.filter_cons, z_cat, z_catI, z_catJ, z_catF, z_catD]) (fun ls hl => ?_)
  obtain ⟨I_8, ⟨n_13, hI⟩, hB_8⟩ := hw
  have hL_8 : ∀ (n_5 : Nat) (x_2 : Int32) (x_3 : Int32) (x_4 : Int32) (H : Heap) (locs : List Loc) (ls : Array Slot), I_8 n_5 x_2 x_3 x_4 → lv_has ls 6 [(0, .int x_2), (1, va_rf r1), (2, .int x2), (3, .int x3), (4, .int x_3), (5, .int x_4)] → zHd g hp H → H.size = nx → va_S (zAd g) s.heap H locs → W p l e (zrm (d + 1) 0 0) s m ([.int x0, va_rf r1, .int x2, .int x3] : List Value).toArray below meth c H locs 0 0 (MQ below (zQi g Post) ([.int x0, va_rf r1, .int x2, .int x3] : List Value).toArray s 0 0 (zAd g)) (F0 m 8 ls []) := by
    intro n_5
    induction n_5 using Nat.strongRecOn with
    | _ n_5 ih_8 =>
      intro x_2 x_3 x_4 H locs ls hw hl hH hz hS
      have hw := hB_8 n_5 x_2 x_3 x_4 hw
      refine lv_iload hx hb dJ9_hashCode_4_8 (lv_at hl 5 rfl) ?_
      refine lv_iload hx hb dJ9_hashCode_4_10 (lv_at hl 4 rfl) ?_
      refine lv_icmp_ge (tgt := 31) hx hb dJ9_hashCode_4_12 (by decide) (fun hc => ?_) (fun hc => ?_)
      · have hw := hw.1 hc
        refine lv_iload_n hx hb dJ9_hashCode_4_31 rfl (lv_at hl 0 rfl) ?_
        exact zr_iret hk hr hH hz hS hw (Nat.le_of_ble_eq_true rfl) (Nat.le_of_ble_eq_true rfl) dJ9_hashCode_4_32
      · have hw := hw.2 hc
        refine lv_bipush (v := (31 : Int32)) hx hb dJ9_hashCode_4_15 (by decide) ?_
        refine lv_iload_n hx hb dJ9_hashCode_4_17 rfl (lv_at hl 0 rfl) ?_
        refine lv_imul hx hb dJ9_hashCode_4_18 ?_
        refine zr_aload_n (r := r1) hx hb dJ9_hashCode_4_19 rfl (lv_at hl 1 rfl) ?_
        refine lv_iload hx hb dJ9_hashCode_4_20 (lv_at hl 5 rfl) ?_
        obtain ⟨a_6, n_7, f_8, er, he, hi, hw⟩ := zaI_e hw
        have hw := hw _ rfl
        refine zw_iald hk hH er he hi dJ9_hashCode_4_22 ?_
        generalize f_8 x_4.toNatClampNeg = x_9 at hw ⊢
        refine lv_iadd hx hb dJ9_hashCode_4_23 ?_
        refine lv_topi (fun x_10 ex_10 => ?_)
        have hw := hw x_10 ex_10
        refine lv_istore_n (i := 0) (lv' := [(0, .int x_10), (1, va_rf r1), (2, .int x2), (3, .int x3), (4, .int x_3), (5, .int x_4)]) hx hb dJ9_hashCode_4_24 rfl hl (by decide) (by first | rfl | simp [List.filter_cons, z_cat, z_catI, z_catJ, z_catF, z_catD]) (fun ls hl => ?_)
        obtain ⟨x_11, ex_11⟩ : ∃ y : Int32, y = x_4 + (1 : Int32) := ⟨_, rfl⟩
        have hw := hw x_11 ex_11
        refine lv_iinc (v := x_11) (lv' := [(5, .int x_11), (0, .int x_10), (1, va_rf r1), (2, .int x2), (3, .int x3), (4, .int x_3)]) hx hb dJ9_hashCode_4_25 hl (k := 5) rfl (by rw [ex_11]; rfl) (by decide) (by first | rfl | simp [List.filter_cons, z_cat, z_catI, z_catJ, z_catF, z_catD]) (fun ls hl => ?_)
        refine lv_goto (tgt := 8) hx hb dJ9_hashCode_4_28 (by decide) ?_
        obtain ⟨k_12, hlt, hw⟩ := hw
        exact ih_8 k_12 hlt x_10 x_3 x_11 _ _ _ hw (lv_sub hl [1, 2, 3, 4, 5, 0] rfl) hH hz hS
  exact hL_8 n_13 x0 x_1 x2 _ _ _ hI (lv_sub hl [2, 3, 4, 5, 1, 0] rfl) hH hz hS
