set_option maxRecDepth 100000
/-! chance -/
section CH
variable {l : Launch} {g : zG} {d x0 : Nat} {P : cP} {σ σ' : cS} {hp hp' : zHp} {nx M M' : Nat} {A : sV} {S : sSt} {fm : sF} {ly : sY} {kd : Nat → Int32} {mc ms kc ks : Nat}
theorem cRCk {c : Nat} {K : Option Nat → Prop} (hS : cS0 g x0 P hp σ.2.2.2.2 S.1 S.2.1 S.2.2.1) (hc : c < 24) (hK : K (some (P.1 c))) : zgR (cput g x0 P σ hp) (some x0) [0] 0 fun r => zaR (g.2.1 7) (cput g x0 P σ hp) r fun a n f => vp_in (nI c) n ∧ ∀ q : Option Nat, q = f c → K q := by
  have h := cRC (S := S) hS hc hK
  rw [nI_clamp (by omega)] at h
  exact h
theorem s_dr_gap {p : Nat → Prop} {seed : Int32} {ow : sO} {i : Nat} : ∀ {k : Nat}, i ≤ k → (∀ q, i ≤ q → q < k → ¬ p q) → s_dr p seed ow k = s_dr p seed ow i := by
  intro k
  induction k with
  | zero => intro h _; rw [show i = 0 by omega]
  | succ k ih =>
    intro h1 h2
    by_cases e : i = k + 1
    · rw [e]
    · show s_if (p k) _ _ = _
      rw [s_if_n (h2 k (by omega) (by omega))]
      exact ih (by omega) (fun q a b => h2 q a (by omega))
/-- what a cell reads is an input -/
theorem s_RD_in (hV : sOK A.1) {c x : Nat} (hc : c < 24) (h : s_RD A.1.1 A.1.2.1 c x) : x < 24 ∧ A.1.1 x = [] := by
  obtain ⟨rk, hST⟩ := hV.st
  exact s_RD_lt hST.1 hST.2.1 hST.2.2.1 _ c x (Nat.lt_succ_self _) hc h
def cJ1 (σ : cS) (A : sV) (c : Nat) (seed : Int32) (k : Nat) (τ : cS) : Prop := τ.1 = σ.1 ∧ τ.2.1 = σ.2.1 ∧ τ.2.2.1 = σ.2.2.1 ∧ (∀ e, e < k → s_RD A.1.1 A.1.2.1 c e → τ.2.2.2.2.2.1 23 e = σ.2.2.2.1 e) ∧ (∀ e, ¬ (e < k ∧ s_RD A.1.1 A.1.2.1 c e) → τ.2.2.2.1 e = σ.2.2.2.1 e) ∧ cOW A.1.1 A.1.2.2.1 τ.2.2.2.1 (s_dr (s_RD A.1.1 A.1.2.1 c) seed A.1.2.2.2 k).2 ∧ τ.2.2.2.2.1 = σ.2.2.2.2.1 ∧ (∀ j, j ≠ 23 → τ.2.2.2.2.2.1 j = σ.2.2.2.2.2.1 j) ∧ τ.2.2.2.2.2.2 = σ.2.2.2.2.2.2
theorem cJ1.gap {c i k : Nat} {seed : Int32} {τ : cS} (h : cJ1 σ A c seed i τ) (hk : i ≤ k) (hg : ∀ q, i ≤ q → q < k → ¬ s_RD A.1.1 A.1.2.1 c q) : cJ1 σ A c seed k τ := by
  obtain ⟨a1, a2, a3, a4, a5, a6, a7⟩ := h
  refine ⟨a1, a2, a3, fun e he hr => ?_, fun e he => ?_, by rw [s_dr_gap hk hg]; exact a6, a7⟩
  · by_cases q : e < i
    · exact a4 e q hr
    · exact absurd hr (hg e (by omega) he)
  · exact a5 e (fun q => he ⟨by omega, q.2⟩)
/-- a draw -/
theorem c_comes (hV : sOK A.1) (hI : cINV g x0 P hp σ A M) (hM : M + 192001 ≤ 2147483647) {c : Nat} (hc : c < 24) {seed : Int32} {w : UInt64} (hw : s_B w) (hd : 1390 ≤ d) {K : Int32 → zHp → Nat → Prop} (hK : ∀ σ', cINV g x0 P hp σ' A (M + 192001) → K (s_if (s_lot A.1 c seed w) 1 0) (cput g x0 P σ' hp) nx) : zMtW l g yX0_comes cX0_comes 13 (some .boolean) [(105, 133, 180, 0), (180, 182, 180, 0)] d 0 0 [.ref x0, .int (nI c), .int seed, .double w] (cput g x0 P σ hp) nx (zQi g K) := by
  obtain ⟨d, rfl⟩ := Nat.exists_eq_add_of_le' (show 1 ≤ d by omega)
  obtain ⟨rk, hST⟩ := hV.st
  have hI' := hI
  obtain ⟨i1, i2, i3, i4, i5, i6, i7, i8, i9, i10⟩ := hI
  have hB0 := i1.1
  have cc : (nI c).toNatClampNeg = c := nI_clamp (by omega)
  have ic : vp_in (nI c) 24 := vp_in_nI hc (by decide)
  have hwg := ((i6.2.1 c (by omega)).1 hc).1.2
  have h24 : ∀ x, s_RD A.1.1 A.1.2.1 c x → x < 24 := fun x h => (s_RD_in hV hc h).1
  apply met_X0_comes
  unfold wp_X0_comes
  rw [cg_reads, ca_reads]
  refine ⟨ic, ?_⟩
  intro r8 e8
  rw [cc] at e8
  subst e8
  rw [hz_o (cput_b (show 24 + c < 49 by omega)) (by decide)]
  /- the next bit, in any state with these sets -/
  have st : ∀ (τ : cS), τ.2.2.2.2.2.2 = σ.2.2.2.2.2.2 → ∀ i, i ≤ 24 → ∀ PP : Int32 → zHp → Nat → Prop, (∀ x, ((∃ k, i ≤ k ∧ k < 24 ∧ s_RD A.1.1 A.1.2.1 c k ∧ x = nI k ∧ (∀ q, i ≤ q → q < k → ¬ s_RD A.1.1 A.1.2.1 c q)) ∨ (x = -1 ∧ (∀ q, i ≤ q → q < 24 → ¬ s_RD A.1.1 A.1.2.1 c q))) → PP x (cput g x0 P τ hp) nx) → zMt l g yJ0_nextSetBit cJ0_nextSetBit 5 (some .int) d 0 0 [.ref (x0 + cBA (24 + c)), .int (nI i)] (cput g x0 P τ hp) nx (zQi g PP) := by
    intro τ eτ i hi PP hx
    exact c_bnext (p := s_RD A.1.1 A.1.2.1 c) (by omega) (by rw [eτ]; exact hwg) h24 hi (by omega) (fun k k1 k2 k3 k4 => hx _ (Or.inl ⟨k, k1, k2, k3, rfl, k4⟩)) (fun z => hx _ (Or.inr ⟨rfl, z⟩))
  refine st σ rfl 0 (by omega) _ (fun x hx => ?_)
  have j0 : cJ1 σ A c seed 0 σ := ⟨rfl, rfl, rfl, fun e he => absurd he (Nat.not_lt_zero _), fun _ _ => rfl, i6.2.2.1, rfl, fun _ _ => rfl, rfl⟩
  refine ⟨fun n r z y h n' => ∃ τ k, ((n = 25 - k ∧ k < 24 ∧ s_RD A.1.1 A.1.2.1 c k ∧ y = nI k) ∨ (n = 0 ∧ y = -1 ∧ k = 24)) ∧ cJ1 σ A c seed k τ ∧ z = (s_dr (s_RD A.1.1 A.1.2.1 c) seed A.1.2.2.2 k).1 ∧ r = some (x0 + cBA (24 + c)) ∧ h = cput g x0 P τ hp ∧ nx = n', ?_, ?_⟩
  · rcases hx with ⟨k, -, k2, k3, rfl, k5⟩ | ⟨rfl, k5⟩
    · exact ⟨25 - k, σ, k, Or.inl ⟨rfl, k2, k3, rfl⟩, j0.gap (Nat.zero_le _) k5, by rw [s_dr_gap (Nat.zero_le k) k5]; rfl, rfl, rfl, rfl⟩
    · exact ⟨0, σ, 24, Or.inr ⟨rfl, rfl, rfl⟩, j0.gap (Nat.zero_le _) k5, by rw [s_dr_gap (Nat.zero_le 24) k5]; rfl, rfl, rfl, rfl⟩
  rintro n r z y h n' ⟨τ, k, hy, hJ, rfl, rfl, rfl, rfl⟩
  obtain ⟨b1, b2, b3, b4, b5, b6, b7, b8, b9⟩ := hJ
  rcases hy with ⟨rfl, k2, k3, rfl⟩ | ⟨rfl, rfl, rfl⟩
  · /- one more is drawn -/
    obtain ⟨-, kf⟩ := s_RD_in hV hc k3
    refine ⟨fun z => absurd z (nI_pos (by omega)), fun _ => ?_⟩
    have ck : (nI k).toNatClampNeg = k := nI_clamp (by omega)
    have ik : vp_in (nI k) 24 := vp_in_nI k2 (by decide)
    have j1 : cS0 g x0 P hp τ.2.2.2.2 A.1.1 A.1.2.1 A.1.2.2.1 := by have := i6.1; unfold cS0 at this ⊢; rw [b9]; exact this
    rw [cg_hads]
    refine cRC (S := A.1) j1 k2 ?_
    rw [cc_w i1 k2, ca_hads]
    refine ⟨ik, by omega, ?_⟩
    rintro _ rfl
    rw [ck, cu_hads]
    rintro _ rfl
    obtain ⟨τ1, e1⟩ : ∃ τ1, τ1 = cuD τ 23 (va_up (τ.2.2.2.2.2.1 23) k (τ.2.2.2.1 k)) := ⟨_, rfl⟩
    rw [← e1]
    have j1' : cS0 g x0 P hp τ1.2.2.2.2 A.1.1 A.1.2.1 A.1.2.2.1 := by rw [e1]; exact j1
    refine cRCk (S := A.1) j1' k2 ?_
    refine cRCk (S := A.1) j1' k2 ?_
    have h8 : s_B (s_dv (s_dz (s_dr (s_RD A.1.1 A.1.2.1 c) seed A.1.2.2.2 k).1)) := fb_8
    refine ⟨by decide, fb_nn h8, ?_⟩
    rw [cc_o i1 k2]
    refine ⟨fun q h n => q = s_kp (A.1.2.2.1 k) (s_dv (s_dz (s_dr (s_RD A.1.1 A.1.2.1 c) seed A.1.2.2.2 k).1)) ∧ h = cput g x0 P τ1 hp ∧ nx = n, ?_, c_kept (cput_c i1 k2) (i1.2.2.1 k k2).2.2.2 (by omega) h8 ⟨by rw [i6.1.2.1 k k2]; rfl, rfl, rfl⟩⟩
    rintro q h n ⟨rfl, rfl, rfl⟩
    rw [cc_pw i1 k2]
    obtain ⟨τ2, e2⟩ : ∃ τ2, τ2 = cuO τ1 k (s_kp (A.1.2.2.1 k) (s_dv (s_dz (s_dr (s_RD A.1.1 A.1.2.1 c) seed A.1.2.2.2 k).1))) := ⟨_, rfl⟩
    rw [← e2]
    have edr : s_dr (s_RD A.1.1 A.1.2.1 c) seed A.1.2.2.2 (k + 1) = (s_dz (s_dr (s_RD A.1.1 A.1.2.1 c) seed A.1.2.2.2 k).1, s_up (s_dr (s_RD A.1.1 A.1.2.1 c) seed A.1.2.2.2 k).2 k (some (s_dv (s_dz (s_dr (s_RD A.1.1 A.1.2.1 c) seed A.1.2.2.2 k).1)))) := by
      show s_if (s_RD A.1.1 A.1.2.1 c k) _ _ = _
      rw [s_if_p k3]
    have J2 : cJ1 σ A c seed (k + 1) τ2 := by
      refine ⟨by rw [e2, e1]; exact b1, by rw [e2, e1]; exact b2, by rw [e2, e1]; exact b3, fun e he hr => ?_, fun e he => ?_, ?_, by rw [e2, e1]; exact b7, fun j hj => ?_, by rw [e2, e1]; exact b9⟩
      · rw [e2, e1]
        show (cuD τ 23 _).2.2.2.2.2.1 23 e = _
        rw [kD_s]
        by_cases q : e = k
        · subst q
          rw [va_s]
          exact b5 e (fun y => Nat.lt_irrefl _ y.1)
        · rw [va_o q]; exact b4 e (by omega) hr
      · have q : e ≠ k := fun q => he ⟨by omega, by rw [q]; exact k3⟩
        rw [e2, kO_o q, e1]
        exact b5 e (fun y => he ⟨by omega, y.2⟩)
      · rw [edr]
        show cOW _ _ τ2.2.2.2.1 _
        rw [e2]
        show cOW _ _ (va_up τ1.2.2.2.1 k _) _
        have : τ1.2.2.2.1 = τ.2.2.2.1 := by rw [e1]; rfl
        rw [this]
        exact b6.up h8
      · rw [e2, e1]
        show (cuD τ 23 _).2.2.2.2.2.1 j = _
        rw [kD_o hj]; exact b8 j hj
    rw [hz_o (cput_b (show 24 + c < 49 by omega)) (by decide), nI_1]
    refine st τ2 J2.2.2.2.2.2.2.2.2 (k + 1) (by omega) _ (fun x hx => ?_)
    have edz : (s_dr (s_RD A.1.1 A.1.2.1 c) seed A.1.2.2.2 (k + 1)).1 = (s_dr (s_RD A.1.1 A.1.2.1 c) seed A.1.2.2.2 k).1 * 1103515245 + 12345 := by rw [edr]; rfl
    rcases hx with ⟨k', j1, j2, j3, rfl, j5⟩ | ⟨rfl, j5⟩
    · exact ⟨25 - k', by omega, τ2, k', Or.inl ⟨rfl, j2, j3, rfl⟩, J2.gap j1 j5, by rw [s_dr_gap j1 j5, edz], rfl, rfl, rfl⟩
    · exact ⟨0, by omega, τ2, 24, Or.inr ⟨rfl, rfl, rfl⟩, J2.gap (by omega) j5, by rw [s_dr_gap (show k + 1 ≤ 24 by omega) j5, edz], rfl, rfl, rfl⟩
  · /- it's told -/
    refine ⟨fun _ => ?_, fun z => absurd (by decide) z⟩
    have jS : cSH g x0 P hp τ.2.2.2.2 A.1.1 A.1.2.1 A.1.2.2.1 := by have := i6.sh; unfold cSH at this ⊢; rw [b9]; exact this
    have hSt : cSt τ M := by unfold cSt at i10 ⊢; rw [b3]; exact i10
    rw [cz_o]
    refine c_asked i1 jS hST hV.tm hc b6 hSt hM (by omega) (fun v σ1 a1 a2 a3 a4 a5 a6 a7 a8 => ?_)
    rw [cg_fault, a5]
    have aX : σ1.2.2.2.2.2.2 = σ.2.2.2.2.2.2 := by rw [a1]; exact b9
    /- back -/
    have back : ∀ (v26 : Int32) (v27 : UInt64) (res : Int32), res = s_if (s_lot A.1 c seed w) 1 0 → zMt l g yJ0_nextSetBit cJ0_nextSetBit 5 (some .int) d 0 0 [.ref (x0 + cBA (24 + c)), .int (0 : Int32)] (cput g x0 P σ1 hp) nx (zQi g fun x_33 hp_31 nx_32 =>
        (∃ I_141 : Nat → (Option Nat) → Int32 → UInt64 → Int32 → Int32 → zHp → Nat → Prop, (∃ n_69, I_141 n_69 (some (x0 + cBA (24 + c))) v26 v27 res x_33 hp_31 nx_32) ∧ ∀ (n_41 : Nat) (r_34 : Option Nat) (x_35 : Int32) (x_36 : UInt64) (x_37 : Int32) (x_38 : Int32) (hp_39 : zHp) (nx_40 : Nat), I_141 n_41 r_34 x_35 x_36 x_37 x_38 hp_39 nx_40 →
        ((x_38 < 0 → (((x_37 = 0 ∨ x_37 = 1) ∧ K x_37 hp_39 nx_40))) ∧
        (¬ x_38 < 0 →
        (zgR hp_39 (some x0) [0] 0 fun r_45 =>
        (zaR (g.2.1 7) hp_39 r_45 fun a_46 n_47 f_48 => vp_in x_38 n_47 ∧ ∀ r_49 : Option Nat, r_49 = f_48 x_38.toNatClampNeg →
        (zgR hp_39 (some x0) [0] 23 fun r_53 =>
        (zaD (g.2.1 1) hp_39 r_53 fun a_54 n_55 f_56 => vp_in x_38 n_55 ∧ ∀ x_57 : UInt64, x_57 = f_56 x_38.toNatClampNeg →
        (zpt g hp_39 r_49 [2, 6, 7, 8, 9, 10] 2 (.double x_57) fun hp_61 =>
        (zo hp_61 r_34 [34] fun a_66 ci_67 fs_68 => zMt l g yJ0_nextSetBit cJ0_nextSetBit 5 (some .int) d 0 0 (.ref a_66 :: [.int (x_38 + (1 : Int32))]) hp_61 nx_40 (zQi g fun x_64 hp_62 nx_63 =>
        (∃ k_65, k_65 < n_41 ∧ I_141 k_65 r_34 x_35 x_36 x_37 x_64 hp_62 nx_63)))))))))))) := by
      intro v26 v27 res hres
      refine st σ1 aX 0 (by omega) _ (fun x hx => ?_)
      let J : Nat → cS → Prop := fun k τ3 => τ3.1 = σ1.1 ∧ τ3.2.1 = σ1.2.1 ∧ τ3.2.2.1 = σ1.2.2.1 ∧ τ3.2.2.2.2 = σ1.2.2.2.2 ∧ (∀ e, e < k → s_RD A.1.1 A.1.2.1 c e → τ3.2.2.2.1 e = σ.2.2.2.1 e) ∧ ∀ e, ¬ (e < k ∧ s_RD A.1.1 A.1.2.1 c e) → τ3.2.2.2.1 e = σ1.2.2.2.1 e
      have gap : ∀ {i k : Nat} {τ3 : cS}, J i τ3 → i ≤ k → (∀ q, i ≤ q → q < k → ¬ s_RD A.1.1 A.1.2.1 c q) → J k τ3 := by
        rintro i k τ3 ⟨c1, c2, c3, c4, c5, c6⟩ hk hg
        refine ⟨c1, c2, c3, c4, fun e he hr => ?_, fun e he => c6 e (fun q => he ⟨by omega, q.2⟩)⟩
        by_cases q : e < i
        · exact c5 e q hr
        · exact absurd hr (hg e (by omega) he)
      have J0 : J 0 σ1 := ⟨rfl, rfl, rfl, rfl, fun e he => absurd he (Nat.not_lt_zero _), fun _ _ => rfl⟩
      refine ⟨fun n r _ _ q y h n' => ∃ τ3 k, ((n = 25 - k ∧ k < 24 ∧ s_RD A.1.1 A.1.2.1 c k ∧ y = nI k) ∨ (n = 0 ∧ y = -1 ∧ k = 24)) ∧ J k τ3 ∧ q = res ∧ r = some (x0 + cBA (24 + c)) ∧ h = cput g x0 P τ3 hp ∧ nx = n', ?_, ?_⟩
      · rcases hx with ⟨k, -, k2, k3, rfl, k5⟩ | ⟨rfl, k5⟩
        · exact ⟨25 - k, σ1, k, Or.inl ⟨rfl, k2, k3, rfl⟩, gap J0 (Nat.zero_le _) k5, rfl, rfl, rfl, rfl⟩
        · exact ⟨0, σ1, 24, Or.inr ⟨rfl, rfl, rfl⟩, gap J0 (Nat.zero_le _) k5, rfl, rfl, rfl, rfl⟩
      rintro n r _ _ q y h n' ⟨τ3, k, hy, ⟨c1, c2, c3, c4, c5, c6⟩, rfl, rfl, rfl, rfl⟩
      rcases hy with ⟨rfl, k2, k3, rfl⟩ | ⟨rfl, rfl, rfl⟩
      · refine ⟨fun z => absurd z (nI_pos (by omega)), fun _ => ?_⟩
        have ck : (nI k).toNatClampNeg = k := nI_clamp (by omega)
        have ik : vp_in (nI k) 24 := vp_in_nI k2 (by decide)
        have aX3 : τ3.2.2.2.2.2.2 = σ.2.2.2.2.2.2 := by rw [c4]; exact aX
        have j1 : cS0 g x0 P hp τ3.2.2.2.2 A.1.1 A.1.2.1 A.1.2.2.1 := by have := i6.1; unfold cS0 at this ⊢; rw [aX3]; exact this
        refine cRC (S := A.1) j1 k2 ?_
        rw [cg_hads, ca_hads]
        refine ⟨ik, ?_⟩
        rintro _ rfl
        rw [ck, cc_pw i1 k2, hz_o (cput_b (show 24 + c < 49 by omega)) (by decide), nI_1]
        have eh : τ3.2.2.2.2.2.1 23 k = σ.2.2.2.1 k := by
          rw [c4, a1]
          exact b4 k k2 k3
        rw [eh]
        have J3 : J (k + 1) (cuO τ3 k (σ.2.2.2.1 k)) := by
          refine ⟨c1, c2, c3, c4, fun e he hr => ?_, fun e he => ?_⟩
          · by_cases q : e = k
            · subst q; rw [kO_s]
            · rw [kO_o q]; exact c5 e (by omega) hr
          · have q : e ≠ k := fun q => he ⟨by omega, by rw [q]; exact k3⟩
            rw [kO_o q]; exact c6 e (fun y => he ⟨by omega, y.2⟩)
        refine st (cuO τ3 k (σ.2.2.2.1 k)) aX3 (k + 1) (by omega) _ (fun x hx => ?_)
        rcases hx with ⟨k', j1, j2, j3, rfl, j5⟩ | ⟨rfl, j5⟩
        · exact ⟨25 - k', by omega, _, k', Or.inl ⟨rfl, j2, j3, rfl⟩, gap J3 j1 j5, rfl, rfl, rfl, rfl⟩
        · exact ⟨0, by omega, _, 24, Or.inr ⟨rfl, rfl, rfl⟩, gap J3 (by omega) j5, rfl, rfl, rfl, rfl⟩
      · refine ⟨fun _ => ?_, fun z => absurd (by decide) z⟩
        have eown : τ3.2.2.2.1 = σ.2.2.2.1 := by
          funext e
          by_cases q : s_RD A.1.1 A.1.2.1 c e
          · exact c5 e (h24 e q) q
          · rw [c6 e (fun y => q y.2), a1]
            exact b5 e (fun y => q y.2)
        rw [hres]
        refine ⟨?_, hK τ3 ?_⟩
        · by_cases q : s_lot A.1 c seed w
          · rw [s_if_p q]; exact Or.inr rfl
          · rw [s_if_n q]; exact Or.inl rfl
        · refine (hI'.tl (σ' := (τ3.1, τ3.2.1, τ3.2.2.1, σ.2.2.2)) rfl (by rw [c2]; exact a2) (fun k p q r => by show τ3.1 k = _; rw [c1, a3 k p q r, b1]) (show cSt _ (M + 192001) from ?_)).ad (σ' := τ3) rfl rfl rfl eown (fun k hk => ?_) ?_ ?_
          · unfold cSt at a4 ⊢
            show ∀ s, s < 7 → ∃ j, j ≤ _ ∧ (τ3.2.2.1 s).2.2 = nI j ∧ ∀ k, k < 24 * cWd s → ∃ i, i ≤ j ∧ (τ3.2.2.1 s).1 3 k = nI i
            rw [c3]; exact a4
          · rw [c4, a1, b7]
          · rw [c4, a1]; exact b8 25 (by decide)
          · rw [c4]; exact aX
    have hlv : (s_lve A.1 c seed) = s_EV A.1.1 A.1.2.1 A.1.2.2.1 (s_dr (s_RD A.1.1 A.1.2.1 c) seed A.1.2.2.2 24).2 c := rfl
    refine ⟨fun r x v res h n => r = some (x0 + cBA (24 + c)) ∧ res = s_if (s_lot A.1 c seed w) 1 0 ∧ h = cput g x0 P σ1 hp ∧ nx = n, ?_, ?_⟩
    · rintro r x v res h n ⟨rfl, hres, rfl, rfl⟩
      rw [hz_o (cput_b (show 24 + c < 49 by omega)) (by decide)]
      exact back x v res hres
    refine ⟨fun r x v h n => ¬ s_lot A.1 c seed w ∧ r = some (x0 + cBA (24 + c)) ∧ h = cput g x0 P σ1 hp ∧ nx = n, ?_, fun z => ⟨fun y => ?_, fun y => ?_⟩, fun z => ?_⟩
    · rintro r x v h n ⟨hn, rfl, rfl, rfl⟩
      exact ⟨rfl, by rw [s_if_n hn], rfl, rfl⟩
    · have hv := a8 z
      rw [← hlv] at hv z
      refine ⟨fun q => q.2 ?_, rfl, rfl, rfl⟩
      rw [hv] at y
      rw [hv] at a7
      exact (fc_lltz a7.f hw.f).mp y
    · have hv := a8 z
      rw [← hlv] at hv z
      refine ⟨rfl, ?_, rfl, rfl⟩
      have : s_lot A.1 c seed w := ⟨z, fun q => y ?_⟩
      · rw [s_if_p this]
      · rw [hv] at a7 ⊢
        exact (fc_lltz a7.f hw.f).mpr q
    · refine ⟨fun q => z ?_, rfl, rfl, rfl⟩
      exact q.1
/-- chance -/
theorem s_gcd_step {p q : Nat} (h : q ≠ 0) : Nat.gcd p q = Nat.gcd q (p % q) := by
  rw [Nat.gcd_comm p q, Nat.gcd_rec q p, Nat.gcd_comm]
theorem co_chance (hV : sOK A.1) (hI : cINV g x0 P hp σ A M) (hM : M + 10000000 ≤ 2147483647) (hd : 1400 ≤ d) {x seed m want part : Int32} {K : Int32 → zHp → Nat → Prop} (hK : ∀ σ', cINV g x0 P hp σ' A (M + 10000000) → K (o_chance A x seed m want part) (cput g x0 P σ' hp) nx) : zMt l g yX0_chance cX0_chance 10 (some .int) d 0 0 [.ref x0, .int x, .int seed, .int m, .int want, .int part] (cput g x0 P σ hp) nx (zQi g K) := by
  obtain ⟨d, rfl⟩ := Nat.exists_eq_add_of_le' (show 1 ≤ d by omega)
  have h0 := hK σ (cIV_tl hI (by omega))
  apply met_X0_chance
  unfold wp_X0_chance
  have m45 : ∀ h n, (o_chance A x seed m want part = -2 ∧ h = cput g x0 P σ hp ∧ nx = n) → K (-2) h n := by
    rintro h n ⟨e, rfl, rfl⟩
    rw [e] at h0
    exact h0
  refine c_isCell (by omega) (fun e => ?_) (fun c hc ex e => ?_)
  · exact ⟨fun h n => o_chance A x seed m want part = -2 ∧ h = cput g x0 P σ hp ∧ nx = n, m45, fun _ => ⟨by unfold o_chance; rw [e], rfl, rfl⟩, fun z => absurd rfl z⟩
  refine ⟨fun h n => o_chance A x seed m want part = -2 ∧ h = cput g x0 P σ hp ∧ nx = n, m45, fun z => absurd z (by decide), fun _ => ?_⟩
  subst ex
  have no : (m < 1 ∨ 20 < m ∨ want < -80000 ∨ 80000 < want ∨ part < 0 ∨ 1 < part) → (o_chance A (nI c) seed m want part = -2 ∧ cput g x0 P σ hp = cput g x0 P σ hp ∧ nx = nx) := fun h => ⟨by unfold o_chance; rw [e]; simp only []; rw [s_if_p h], rfl, rfl⟩
  refine c_inn (a := 1) (b := 20) (by decide) (by decide) (by omega) (fun z => ⟨fun _ => no (by rcases z with z | z; exact Or.inl z; exact Or.inr (Or.inl z)), fun y => absurd rfl y⟩) (fun h1 => ⟨fun y => absurd y (by decide), fun _ => ?_⟩)
  refine c_inn (a := -80000) (b := 80000) (by decide) (by decide) (by omega) (fun z => ⟨fun _ => no (Or.inr (Or.inr (by rcases z with z | z; exact Or.inl z; exact Or.inr (Or.inl z)))), fun y => absurd rfl y⟩) (fun h2 => ⟨fun y => absurd y (by decide), fun _ => ?_⟩)
  refine c_inn (a := 0) (b := 1) (by decide) (by decide) (by omega) (fun z => ⟨fun _ => no (Or.inr (Or.inr (Or.inr (Or.inr z)))), fun y => absurd rfl y⟩) (fun h3 => ⟨fun y => absurd y (by decide), fun _ => ?_⟩)
  clear no m45 h0
  obtain ⟨mm, hm, rfl⟩ : ∃ k, (1 ≤ k ∧ k ≤ 20) ∧ m = nI k := by
    have h0 : ¬ (m < 0 ∨ 20 < m) := by
      rintro (q | q)
      · apply h1; left
        rw [Int32.lt_iff_toInt_lt] at q ⊢
        have e0 : (0 : Int32).toInt = 0 := by decide
        have e1 : (1 : Int32).toInt = 1 := by decide
        rw [e0] at q; rw [e1]; omega
      · exact h1 (Or.inr q)
    rcases s_x_of (x := m) (M := 20) (n := 20) (by decide) with q | ⟨k, hk, rfl⟩
    · exact absurd q h0
    · refine ⟨k, ⟨?_, by omega⟩, rfl⟩
      rcases Nat.eq_zero_or_pos k with rfl | q
      · exact absurd (Or.inl (by decide)) h1
      · exact q
  have cm : (nI mm).toNatClampNeg = mm := nI_clamp (by omega)
  have eo : o_chance A (nI c) seed (nI mm) want part = (if part = 0 then nI (s_ch A.1 c seed (o_8 want) mm) else nI mm) / nI (Nat.gcd (s_ch A.1 c seed (o_8 want) mm) mm) := by
    unfold o_chance
    rw [e]
    simp only [cm]
    rw [s_if_n]
    rintro (q | q | q | q | q | q)
    · exact h1 (Or.inl q)
    · exact h1 (Or.inr q)
    · exact h2 (Or.inl q)
    · exact h2 (Or.inr q)
    · exact h3 (Or.inl q)
    · exact h3 (Or.inr q)
  rw [eo] at hK
  have hcle : s_ch A.1 c seed (o_8 want) mm ≤ mm := s_cn_le _ _
  refine ⟨fun n came k h n' => ∃ j σ1, n = 21 - j ∧ j ≤ mm ∧ k = nI j ∧ came = nI (s_ch A.1 c seed (o_8 want) j) ∧ h = cput g x0 P σ1 hp ∧ nx = n' ∧ cINV g x0 P hp σ1 A (M + 192001 * j), ⟨21, 0, σ, rfl, Nat.zero_le _, rfl, rfl, rfl, rfl, hI⟩, ?_⟩
  rintro n came k h n' ⟨j, σ1, rfl, hj, rfl, rfl, rfl, rfl, hI1⟩
  refine ⟨fun z => ?_, fun z => ?_⟩
  · have hjm : j = mm := by
      have := (nI_leI (by omega) (by omega)).mp z
      omega
    subst hjm
    have hfin := hK σ1 (cIV_tl hI1 (by omega))
    refine ⟨fun n a p q h n' => ∃ p' q', n = q' ∧ a = nI (s_ch A.1 c seed (o_8 want) j) ∧ p = nI p' ∧ q = nI q' ∧ p' ≤ 20 ∧ q' ≤ 20 ∧ (p' ≠ 0 ∨ q' ≠ 0) ∧ Nat.gcd p' q' = Nat.gcd (s_ch A.1 c seed (o_8 want) j) j ∧ h = cput g x0 P σ1 hp ∧ nx = n', ⟨j, _, j, rfl, rfl, rfl, rfl, by omega, by omega, Or.inr (by omega), rfl, rfl, rfl⟩, ?_⟩
    rintro n a p q h n' ⟨p', q', rfl, rfl, rfl, rfl, hp', hq', hnz, hg, rfl, rfl⟩
    refine ⟨fun y => ?_, fun y => ?_⟩
    · have y0 : n = 0 := (nI_eq (by omega) (by decide)).mp (y.trans nI_0.symm)
      subst y0
      rw [Nat.gcd_zero_right] at hg
      rw [← hg] at hfin
      have hp0 : ¬ nI p' = 0 := nI_ne0 (by omega) (by omega)
      refine ⟨fun _ _ _ r h n => K r h n, fun _ _ _ _ _ _ h => h, fun w => ⟨hp0, ?_⟩, fun w => ⟨hp0, ?_⟩⟩
      · rw [if_pos w] at hfin; exact hfin
      · rw [if_neg w] at hfin; exact hfin
    · have y0 : n ≠ 0 := fun w => y (by rw [w]; rfl)
      refine ⟨y, ?_⟩
      rintro _ rfl
      rw [pk_rem (by omega) (by omega) (by omega)]
      have hml := Nat.mod_lt p' (show 0 < n by omega)
      exact ⟨p' % n, hml, n, p' % n, rfl, rfl, rfl, rfl, by omega, by omega, Or.inl y0, by rw [← s_gcd_step y0]; exact hg, rfl, rfl⟩
  · have hjm : j < mm := by
      rcases Nat.lt_or_ge j mm with y | y
      · exact y
      · exact absurd ((nI_leI (by omega) (by omega)).mpr y) z
    have h8 : s_B (o_8 want) := fb_8
    refine ⟨fb_nn h8, ?_⟩
    rw [cz_o]
    refine c_comes hV hI1 (by omega) hc h8 (by omega) (fun σ2 hI2 => ?_)
    have hI3 : cINV g x0 P hp σ2 A (M + 192001 * (j + 1)) := cIV_tl hI2 (by omega)
    have ech : s_ch A.1 c seed (o_8 want) (j + 1) = s_ch A.1 c seed (o_8 want) j + s_if (s_lot A.1 c (seed + nI j) (o_8 want)) 1 0 := rfl
    have hcl : s_ch A.1 c seed (o_8 want) j ≤ j := s_cn_le _ _
    refine ⟨fun came k h n' => came = nI (s_ch A.1 c seed (o_8 want) (j + 1)) ∧ k = nI j ∧ h = cput g x0 P σ2 hp ∧ nx = n', ?_, fun y => ?_, fun y => ?_⟩
    · rintro came k h n' ⟨rfl, rfl, rfl, rfl⟩
      rintro _ rfl
      exact ⟨21 - (j + 1), by omega, j + 1, σ2, rfl, by omega, nI_1 j, rfl, rfl, rfl, hI3⟩
    · refine ⟨?_, rfl, rfl, rfl⟩
      have : ¬ s_lot A.1 c (seed + nI j) (o_8 want) := fun q => by rw [s_if_p q] at y; exact absurd y (by decide)
      rw [ech, s_if_n this]
      rfl
    · rintro _ rfl
      refine ⟨?_, rfl, rfl, rfl⟩
      have : s_lot A.1 c (seed + nI j) (o_8 want) := Classical.byContradiction fun q => y (by rw [s_if_n q])
      rw [ech, s_if_p this, nI_1]
end CH
