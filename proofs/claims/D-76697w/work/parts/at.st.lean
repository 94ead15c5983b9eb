set_option maxRecDepth 100000
/-! exceptions of our own are made; those that stand -/
section ST
variable {l : Launch} {g : zG} {d x0 : Nat} {P : cP} {σ σ' : cS} {hp : zHp} {nx : Nat} {fm : sF} {ly : sY} {kd : Nat → Int32} {X : cX}
theorem j_thr {q ci : Nat} {fs : List Value} (h : hp q = some (.inr (ci, fs))) (hc : ci ∈ [4, 12]) (hl : fs.length = 7) (hz : zB g ≤ q) (hd : 1 ≤ d) {K : zHp → Nat → Prop} (hK : ∀ fs', fs'.length = 7 → K (va_up hp q (some (.inr (ci, fs')))) nx) : zMt l g yJ1_init_4 cJ1_init_4 5 none d 0 0 [.ref q, va_rf none, va_rf none, .int 0, .int 0] hp nx (zQv g K) := by
  obtain ⟨d, rfl⟩ := Nat.exists_eq_add_of_le' (show 1 ≤ d by omega)
  have sn : ∀ {fs : List Value}, va_up hp q (some (.inr (ci, fs))) q = some (.inr (ci, fs)) := fun {fs} => va_s
  apply met_J1_init_4
  unfold wp_J1_init_4
  rw [hz_p h hc (by omega)]
  refine ⟨hz, fun r5 => ?_⟩
  rw [hz_p sn hc (by rw [List.length_set]; omega)]
  refine ⟨hz, fun r10 => ?_⟩
  rw [cva_uu, hz_p sn hc (by rw [List.length_set, List.length_set]; omega)]
  refine ⟨hz, ?_⟩
  rw [cva_uu]
  refine ⟨_, fun _ _ _ _ h => h, ?_⟩
  refine ⟨fun _ => ?_, fun z => absurd rfl z⟩
  rw [hz_p sn hc (by simp only [List.length_set]; omega)]
  refine ⟨hz, ?_⟩
  rw [cva_uu, hz_p sn hc (by simp only [List.length_set]; omega)]
  refine ⟨hz, ?_⟩
  rw [cva_uu, hz_p sn hc (by simp only [List.length_set]; omega)]
  refine ⟨hz, ?_⟩
  rw [cva_uu]
  refine ⟨_, fun _ _ _ _ h => h, ?_⟩
  refine ⟨fun _ => ?_, fun z => absurd rfl z⟩
  rw [hz_p sn hc (by simp only [List.length_set]; omega)]
  refine ⟨hz, ?_⟩
  rw [cva_uu]
  exact ⟨Nat.le_refl _, Nat.le_refl _, hK _ (by simp only [List.length_set]; exact hl)⟩
theorem zNn_4 : zNn 4 = 7 := by decide +kernel
theorem zNf_4 : (zNf 4).length = 7 := by decide +kernel
theorem x_refused {q : Nat} {fs : List Value} {x : Int32} (h : hp q = some (.inr (4, fs))) (hl : fs.length = 7) (hz : zB g ≤ q) (hd : 3 ≤ d) {K : zHp → Nat → Prop} (hK : ∀ fs', fs'.length = 7 → fs'[6]? = some (.int x) → K (va_up hp q (some (.inr (4, fs')))) nx) : zMt l g yX4_init cX4_init 2 none d 0 0 [.ref q, .int x] hp nx (zQv g K) := by
  obtain ⟨d, rfl⟩ := Nat.exists_eq_add_of_le' (show 2 ≤ d by omega)
  apply met_X4_init
  unfold wp_X4_init
  refine ⟨0, 0, Nat.le_refl _, Nat.le_refl _, ?_⟩
  apply met_J2_init_4
  unfold wp_J2_init_4
  refine ⟨0, 0, Nat.le_refl _, Nat.le_refl _, ?_⟩
  refine j_thr h (by decide) hl hz (by omega) (fun fs' hl' => ?_)
  refine ⟨Nat.le_refl _, Nat.le_refl _, ?_⟩
  show zpt g (va_up hp q (some (.inr (4, fs')))) (some q) [4] 6 (.int x) _
  rw [hz_p va_s (by decide) (by omega)]
  refine ⟨hz, ?_⟩
  rw [cva_uu]
  refine ⟨Nat.le_refl _, Nat.le_refl _, hK _ (by rw [List.length_set]; exact hl') ?_⟩
  rw [List.getElem?_set_self (by omega)]
theorem kAA {k : Nat} {f f' : Nat → Int32} : cuA (cuA σ k f) k f' = cuA σ k f' := by
  unfold cuA cuX
  simp only [cva_uu]
theorem kA_s {k : Nat} {f : Nat → Int32} : (cuA σ k f).2.2.2.2.1 k = f := by unfold cuA cuX; exact va_s
theorem kA_o {k j : Nat} {f : Nat → Int32} (h : j ≠ k) : (cuA σ k f).2.2.2.2.1 j = σ.2.2.2.2.1 j := by unfold cuA cuX; exact va_o h
theorem c_val {n : Nat} (hn : n < 30) (hW : cW g x0 P hp) (hI : cIc g hp) (hd : 1 ≤ d) {K : Option Nat → zHp → Nat → Prop} (hK : ∀ b, hp b = some (.inr (41, [.int (nI n)])) → K (some b) (cput g x0 P σ hp) nx) : zMt l g yJ15_valueOf cJ15_valueOf 1 (some (.object "java/lang/Integer")) d 0 0 [.int (nI n)] (cput g x0 P σ hp) nx (zQq g K) := by
  obtain ⟨d, rfl⟩ := Nat.exists_eq_add_of_le' (show 1 ≤ d by omega)
  obtain ⟨f, h1, h2⟩ := hI
  obtain ⟨b, b1, b2⟩ := h2 n hn
  apply met_J15_valueOf
  unfold wp_J15_valueOf
  refine ⟨_, fun _ _ _ _ h => h, ?_⟩
  refine ⟨fun z => ?_, fun _ => ⟨fun z => ?_, fun _ => ?_⟩⟩
  · exact absurd z ((show ∀ n, n < 30 → ¬ nI n < -128 by decide +kernel) n hn)
  · exact absurd z ((show ∀ n, n < 30 → ¬ 127 < nI n by decide +kernel) n hn)
  · rw [hz_aR (cput_h hW h1), show nI n + (128 : Int32) = nI (n + 128) from nI_add n 128]
    refine ⟨vp_in_nI (by omega) (by decide), ?_⟩
    intro r e
    rw [nI_clamp (by omega), b1] at e
    subst e
    exact ⟨Nat.le_refl _, Nat.le_refl _, hK b b2⟩
theorem c_stands {n h : Nat} {qs : List Nat} (hW : cW g x0 P hp) (hI : cIc g hp) (hS : cS0 g x0 P hp σ.2.2.2.2 fm ly kd) (hM : sMr fm) (hn : n < 30) (hQ : cDq hp σ.2.2.2.2.2.2.2.2.1 h qs) (hl : h + qs.length < 30) (hd : 8 ≤ d) {K : zHp → Nat → Prop}
    (h0 : kW (sNm fm ly) [] n = 0 → ∀ Q, cDq hp Q h (qs ++ [n]) → K (cput g x0 P (cuQ (cuA σ 17 (va_up (σ.2.2.2.2.1 17) n (nI 0))) Q) hp) nx) (h1 : kW (sNm fm ly) [] n ≠ 0 → K (cput g x0 P (cuA σ 17 (va_up (σ.2.2.2.2.1 17) n (nI (kW (sNm fm ly) [] n)))) hp) nx) : zMt l g yX0_stands cX0_stands 3 none d 0 0 [.ref x0, .int (nI n)] (cput g x0 P σ hp) nx (zQv g K) := by
  obtain ⟨d, rfl⟩ := Nat.exists_eq_add_of_le' (show 1 ≤ d by omega)
  have zA : ∀ q, zB g ≤ x0 + q := fun q => by have := hW.1; omega
  have cn : (nI n).toNatClampNeg = n := nI_clamp (by omega)
  have iN : vp_in (nI n) 30 := vp_in_nI hn (by decide)
  have hle : hLe hp (cput g x0 P σ hp) := fun q e z => cput_h hW z
  obtain ⟨p, ep⟩ : ∃ p : Nat → Prop, p = fun m => sNm fm ly n m ∧ ¬ m ∈ ([] : List Nat) := ⟨_, rfl⟩
  have hp1 : ∀ m, p m ↔ sNm fm ly n m := fun m => by rw [ep]; simp
  have ew : kW (sNm fm ly) [] n = s_cn p 30 := by rw [ep]; rfl
  rw [ew] at h0 h1
  apply met_X0_stands
  unfold wp_X0_stands
  rw [cg_waits, ca_waits]
  refine ⟨iN, zA _, ?_⟩
  intro hp8 e8
  rw [cn, cu_waits] at e8
  subst e8
  refine ⟨fun r x hp1 nx1 kc ks => ∃ k, r + k = 30 ∧ x = nI k ∧ hp1 = cput g x0 P (cuA σ 17 (va_up (σ.2.2.2.2.1 17) n (nI (s_cn p k)))) hp ∧ nx = nx1 ∧ kc = 0 ∧ ks = 0, ⟨30, 0, rfl, rfl, rfl, rfl, rfl, rfl⟩, ?_⟩
  rintro r x hp1 nx1 kc ks ⟨k, hk, rfl, rfl, rfl, rfl, rfl⟩
  have hc30 := s_cn_le p k
  refine pk_le 30 k (fun z => ?_) (fun z => ?_)
  · have : k = 30 := by omega
    subst this
    rw [cg_waits, ca_waits]
    refine ⟨iN, ?_⟩
    intro x22 e22
    rw [cn, kA_s, va_s] at e22
    subst e22
    refine ⟨fun x hp1 nx1 kc ks => K hp1 nx1 ∧ kc = 0 ∧ ks = 0, fun x hp1 nx1 kc ks h => ⟨by rw [h.2.1]; decide, by rw [h.2.2]; decide, h.1⟩, ?_⟩
    refine pk_eq (s_cn p 30) 0 (fun z0 => ?_) (fun z0 => ⟨h1 z0, rfl, rfl⟩)
    rw [cg_ready]
    refine ⟨0, 0, Nat.le_refl _, Nat.le_refl _, ?_⟩
    refine c_val hn hW hI (by omega) (fun b hb => ?_)
    refine ⟨0, 0, Nat.le_refl _, Nat.le_refl _, ?_⟩
    rw [hz_o cput_q (by decide)]
    refine c_qadd (σ := cuA σ 17 (va_up (σ.2.2.2.2.1 17) n (nI (s_cn p 30)))) hW hQ hl hb (by omega) (fun Q hQ' => ?_)
    rw [z0]
    exact ⟨h0 z0 Q hQ', rfl, rfl⟩
  · refine ⟨0, 0, Nat.le_refl _, Nat.le_refl _, ?_⟩
    rw [cz_o]
    have next : ∀ v : Nat, v = s_cn p (k + 1) → ∀ x54 : Int32, x54 = nI k + 1 → ∃ k_55, k_55 < r ∧ ∃ k', k_55 + k' = 30 ∧ x54 = nI k' ∧ cput g x0 P (cuA σ 17 (va_up (σ.2.2.2.2.1 17) n (nI v))) hp = cput g x0 P (cuA σ 17 (va_up (σ.2.2.2.2.1 17) n (nI (s_cn p k')))) hp ∧ nx = nx ∧ 0 + 0 = 0 ∧ 0 + 0 = 0 := by
      rintro v rfl x54 rfl
      exact ⟨r - 1, by omega, k + 1, by omega, (nI_succ k).symm, rfl, rfl, rfl, rfl⟩
    refine c_names (σ := cuA σ 17 (va_up (σ.2.2.2.2.1 17) n (nI (s_cn p k)))) hW hI hS hM hn (by omega) (by omega) (fun y => ?_) (fun y => ?_)
    · refine ⟨_, fun _ _ _ _ _ h => h, ?_⟩
      refine ⟨fun w => absurd w (by decide), fun _ => ?_⟩
      rw [cg_waits, ca_waits]
      refine ⟨iN, ?_⟩
      intro x63 e63
      rw [cn, kA_s, va_s] at e63
      subst e63
      rw [ca_waits]
      refine ⟨iN, zA _, ?_⟩
      intro hp67 e67
      rw [cn, cu_waits, kAA, kA_s, cva_uu, nI_1] at e67
      subst e67
      have e1 : s_cn p (k + 1) = s_cn p k + 1 := by show s_cn p k + s_if (p k) 1 0 = _; rw [s_if_p ((hp1 k).mpr y)]
      exact next _ e1.symm
    · refine ⟨_, fun _ _ _ _ _ h => h, ?_⟩
      refine ⟨fun _ => ?_, fun w => absurd rfl w⟩
      have e1 : s_cn p (k + 1) = s_cn p k := by show s_cn p k + s_if (p k) 1 0 = _; rw [s_if_n (fun w => y ((hp1 k).mp w))]; rfl
      exact next _ e1.symm
end ST
