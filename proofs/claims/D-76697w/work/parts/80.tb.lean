set_option maxRecDepth 100000
/-! THE REFERENCE's contracts: what is come to -/
section TB
variable {l : Launch} {g : zG} {d m0 : Nat} {τ τ' τm τ2 : tS} {hp : zHp} {nx : Nat}
def tcI (τ : tS) (fr set : Int32) : Prop := (∀ k, bs fr k = true → bs set k = true) ∧ (∀ k, bs set k = true → k < 30) ∧ ∀ P : Nat → Prop, s_cl (tfm τ) (tly τ) P → (∀ k, bs fr k = true → P k) → ∀ k, bs set k = true → P k
def tcC (τ : tS) (was set : Int32) (i : Nat) : Prop := ∀ c, c < i → bs was c = true → (∀ m ∈ tfm τ c, m.1 < 24 → bs set m.1 = true) ∧ ∀ m ∈ tfm τ c, 300 ≤ m.1 → bs set (24 + m.1 % 10) = true
def tcT (τ : tS) (was set : Int32) (i : Nat) : Prop := ∀ t, t < i → bs was (24 + t) = true → ∀ L, tly τ t = some L → bs set L.1 = true
def tcL (x y : Int32) : Prop := ∀ k, bs x k = true → bs y k = true
theorem tcC.mono {was x y : Int32} {i : Nat} (h : tcC τ was x i) (hl : tcL x y) : tcC τ was y i := fun c hc hb => ⟨fun m hm h24 => hl _ ((h c hc hb).1 m hm h24), fun m hm h3 => hl _ ((h c hc hb).2 m hm h3)⟩
theorem tcT.mono {was x y : Int32} {i : Nat} (h : tcT τ was x i) (hl : tcL x y) : tcT τ was y i := fun t ht hb L hL => hl _ (h t ht hb L hL)
theorem t_comeTo {fr : Int32} {K : Int32 → zHp → Nat → Prop} (hd : 2 ≤ d) (hW : tWt τ) (hmo : s_mo (tfm τ)) (hlen : ∀ c, c < 24 → (tfm τ c).length ≤ 96) (hN : tNm τ) (hfr : ∀ k, bs fr k = true → k < 30) (hK : ∀ S, (∀ k, bs fr k = true → bs S k = true) → s_cl (tfm τ) (tly τ) (fun k => bs S k = true) → (∀ P : Nat → Prop, s_cl (tfm τ) (tly τ) P → (∀ k, bs fr k = true → P k) → ∀ k, bs S k = true → P k) → K S (tput g m0 τ hp) nx) : zMt l g yX5_comeTo cX5_comeTo 6 (some .int) d 0 0 [.ref m0, .int fr] (tput g m0 τ hp) nx (zQi g K) := by
  obtain ⟨d, rfl⟩ := Nat.exists_eq_add_of_le' (show 1 ≤ d by omega)
  apply met_X5_comeTo
  unfold wp_X5_comeTo
  refine ⟨fun n set was h nx' => h = tput g m0 τ hp ∧ nx = nx' ∧ n = s_cn (fun k => ¬ bs was k = true) 30 ∧ tcL was set ∧ tcI τ fr set ∧ tcC τ was set 24 ∧ tcT τ was set 6, ⟨_, rfl, rfl, rfl, ?_, ⟨fun _ h => h, hfr, fun P _ h => h⟩, ?_, ?_⟩, ?_⟩
  · intro k h; rw [b_0] at h; cases h
  · intro k _ h; rw [b_0] at h; cases h
  · intro k _ h; rw [b_0] at h; cases h
  rintro n set was _ _ ⟨rfl, rfl, rfl, i1, i2, i3, i4⟩
  refine ⟨fun he => ?_, fun hne => ?_⟩
  · subst he
    refine hK set i2.1 ⟨fun c hc h => (i3 c hc h).1, fun c hc h => (i3 c hc h).2, fun t ht h => i4 t ht h⟩ i2.2.2
  · have hlt : s_cn (fun k => ¬ bs set k = true) 30 < s_cn (fun k => ¬ bs was k = true) 30 := by
      have : ∃ j, bs set j = true ∧ ¬ bs was j = true := by
        apply Classical.byContradiction
        intro hno
        apply hne
        refine b_ext fun k _ => ?_
        have h1 := i1 k
        have h2 : bs set k = true → bs was k = true := fun h => Classical.byContradiction fun q => hno ⟨k, h, q⟩
        cases ha : bs set k <;> cases hb : bs was k <;> simp_all
      obtain ⟨j, hj1, hj2⟩ := this
      exact s_cn_lt (fun k _ h h2 => h (i1 k h2)) (i2.2.1 j hj1) hj2 (fun h => h hj1)
    refine ⟨fun n x was' i h nx' => ∃ ii, ii ≤ 24 ∧ n = 24 - ii ∧ i = nI ii ∧ set = was' ∧ h = tput g m0 τ hp ∧ nx = nx' ∧ tcL set x ∧ tcI τ fr x ∧ tcC τ set x ii, ⟨24, 0, by omega, rfl, rfl, rfl, rfl, rfl, fun _ h => h, i2, fun c hc => absurd hc (by omega)⟩, ?_⟩
    rintro n x _ _ _ _ ⟨ii, hii, hn, rfl, rfl, rfl, rfl, j1, j2, j3⟩
    refine pk_le 24 ii (fun hle => ?_) (fun hlt2 => ?_)
    · have hie : ii = 24 := by omega
      subst hie
      refine ⟨fun n x was' i h nx' => ∃ tt, tt ≤ 6 ∧ n = 6 - tt ∧ i = nI tt ∧ set = was' ∧ h = tput g m0 τ hp ∧ nx = nx' ∧ tcL set x ∧ tcI τ fr x ∧ tcC τ set x 24 ∧ tcT τ set x tt, ⟨6, 0, by omega, rfl, rfl, rfl, rfl, rfl, j1, j2, j3, fun t ht => absurd ht (by omega)⟩, ?_⟩
      rintro n x _ _ _ _ ⟨tt, htt, hn, rfl, rfl, rfl, rfl, j1, j2, j3, j4⟩
      refine pk_le 6 tt (fun hle => ?_) (fun hlt3 => ?_)
      · have hte : tt = 6 := by omega
        subst hte
        exact ⟨_, hlt, rfl, rfl, rfl, j1, j2, j3, j4⟩
      · have e24 : (24 : Int32) + nI tt = nI (24 + tt) := nI_add 24 tt
        have ct : (nI tt).toNatClampNeg = tt := nI_clamp (by omega)
        have it : vp_in (nI tt) 6 := vp_in_nI hlt3 (by decide)
        rw [e24]
        refine ⟨fun x was' i h nx' => i = nI tt ∧ set = was' ∧ h = tput g m0 τ hp ∧ nx = nx' ∧ tcL set x ∧ tcI τ fr x ∧ tcC τ set x 24 ∧ tcT τ set x (tt + 1), ?_, fun h => ?_, fun h => ?_⟩
        · rintro x _ _ _ _ ⟨rfl, rfl, rfl, rfl, q1, q2, q3, q4⟩ x_24 rfl
          exact ⟨_, by omega, tt + 1, by omega, rfl, nI_1 tt, rfl, rfl, rfl, q1, q2, q3, q4⟩
        · have hin := (b_t1 (by omega)).mp h
          rw [tg_laid, ta_laid]
          refine ⟨it, fun x6 hx6 => ?_⟩
          rw [ct] at hx6
          subst hx6
          refine ⟨fun h6 => ⟨rfl, rfl, rfl, rfl, j1, j2, j3, fun t ht hb L hL => ?_⟩, fun h6 => ?_⟩
          · by_cases e : t = tt
            · subst e; rw [tly_none.mp h6] at hL; cases hL
            · exact j4 t (by omega) hb L hL
          · obtain ⟨L, hL⟩ : ∃ L, tly τ tt = some L := by
              cases hl : tly τ tt with
              | none => exact absurd (tly_none.mpr hl) h6
              | some L => exact ⟨L, rfl⟩
            obtain ⟨_, lo, la, e7, -⟩ := tly_some hW hlt3 hL
            rw [tg_outputs, ta_outputs]
            refine ⟨it, fun x7 hx7 x8 hx8 => ?_⟩
            rw [ct, e7] at hx7
            subst hx7 hx8
            have hl : tcL x (x ||| ((1 : Int32) <<< (nI L.1 &&& 31))) := fun k hk => by rw [b_or, hk]; rfl
            refine ⟨rfl, rfl, rfl, rfl, fun k hk => hl k (j1 k hk), ⟨fun k hk => hl k (j2.1 k hk), fun k hk => ?_, fun P hP hf k hk => ?_⟩, j3.mono hl, fun t ht hb L' hL' => ?_⟩
            · rw [b_or, Bool.or_eq_true, b_one (by omega), decide_eq_true_eq] at hk
              rcases hk with hk | hk
              · exact j2.2.1 k hk
              · omega
            · rw [b_or, Bool.or_eq_true, b_one (by omega), decide_eq_true_eq] at hk
              rcases hk with hk | hk
              · exact j2.2.2 P hP hf k hk
              · subst hk
                exact hP.2.2 tt hlt3 (i2.2.2 P hP hf _ hin) L hL
            · by_cases e : t = tt
              · subst e
                rw [hL] at hL'
                cases hL'
                rw [b_or, b_one (by omega)]
                simp
              · exact hl _ (j4 t (by omega) hb L' hL')
        · have hnin : ¬ bs set (24 + tt) = true := fun q => h ((b_t1 (by omega)).mpr q)
          refine ⟨rfl, rfl, rfl, rfl, j1, j2, j3, fun t ht hb L hL => ?_⟩
          by_cases e : t = tt
          · subst e; exact absurd hb hnin
          · exact j4 t (by omega) hb L hL
    · refine ⟨fun x was' i h nx' => i = nI ii ∧ set = was' ∧ h = tput g m0 τ hp ∧ nx = nx' ∧ tcL set x ∧ tcI τ fr x ∧ tcC τ set x (ii + 1), ?_, fun h => ?_, fun h => ?_⟩
      · rintro x _ _ _ _ ⟨rfl, rfl, rfl, rfl, q1, q2, q3⟩ x_49 rfl
        exact ⟨_, by omega, ii + 1, by omega, rfl, nI_1 ii, rfl, rfl, rfl, q1, q2, q3⟩
      · have hnin := (b_t0 (by omega)).mp h
        refine ⟨rfl, rfl, rfl, rfl, j1, j2, fun c hc hb => ?_⟩
        by_cases e : c = ii
        · subst e; exact absurd hb hnin
        · exact j3 c (by omega) hb
      · have hin : bs set ii = true := Classical.byContradiction fun q => h ((b_t0 (by omega)).mpr q)
        rw [tw_zo]
        refine t_namesCells' (by omega) hlt2 ?_
        intro x_54 hx54
        subst hx54
        have hnames := (hN ii hlt2).1
        have hl0 : tcL x (x ||| τ.2.2.1 12 0 ii) := fun k hk => by rw [b_or, hk]; rfl
        refine ⟨fun n x was' i t h nx' => ∃ tt, tt ≤ 6 ∧ n = 6 - tt ∧ t = nI tt ∧ i = nI ii ∧ set = was' ∧ h = tput g m0 τ hp ∧ nx = nx' ∧ tcL set x ∧ tcI τ fr x ∧ tcC τ set x ii ∧ (∀ m ∈ tfm τ ii, m.1 < 24 → bs x m.1 = true) ∧ ∀ m ∈ tfm τ ii, 300 ≤ m.1 → m.1 % 10 < tt → bs x (24 + m.1 % 10) = true, ⟨6, 0, by omega, rfl, rfl, rfl, rfl, rfl, rfl, fun k hk => hl0 k (j1 k hk), ⟨fun k hk => hl0 k (j2.1 k hk), fun k hk => ?_, fun P hP hf k hk => ?_⟩, j3.mono hl0, fun m hm h24 => ?_, fun m _ _ h => absurd h (by omega)⟩, ?_⟩
        · rw [b_or, Bool.or_eq_true] at hk
          rcases hk with hk | hk
          · exact j2.2.1 k hk
          · have := ((hnames k).mp hk).1; omega
        · rw [b_or, Bool.or_eq_true] at hk
          rcases hk with hk | hk
          · exact j2.2.2 P hP hf k hk
          · obtain ⟨a, m, hm, e⟩ := (hnames k).mp hk
            subst e
            exact hP.1 ii hlt2 (i2.2.2 P hP hf _ hin) m hm a
        · rw [b_or, (hnames m.1).mpr ⟨h24, m, hm, rfl⟩, Bool.or_true]
        rintro n x _ _ _ _ _ ⟨tt, htt, hn, rfl, rfl, rfl, rfl, rfl, q1, q2, q3, q4, q5⟩
        refine pk_le 6 tt (fun hle => ?_) (fun hlt3 => ?_)
        · refine ⟨rfl, rfl, rfl, rfl, q1, q2, fun c hc hb => ?_⟩
          by_cases e : c = ii
          · subst e
            exact ⟨q4, fun m hm h3 => q5 m hm h3 (by have := hmo c hlt2 m hm h3; omega)⟩
          · exact q3 c (by omega) hb
        · rw [tw_zo]
          refine t_times' (by omega) hlt2 hlt3 ?_
          rw [(hN ii hlt2).2 tt hlt3]
          have hle96 : s_tt (tfm τ ii) tt ≤ 96 := Nat.le_trans s_tt_le (hlen ii hlt2)
          have e24 : (24 : Int32) + nI tt = nI (24 + tt) := nI_add 24 tt
          rw [e24]
          refine ⟨fun x was' i t h nx' => t = nI tt ∧ i = nI ii ∧ set = was' ∧ h = tput g m0 τ hp ∧ nx = nx' ∧ tcL set x ∧ tcI τ fr x ∧ tcC τ set x ii ∧ (∀ m ∈ tfm τ ii, m.1 < 24 → bs x m.1 = true) ∧ ∀ m ∈ tfm τ ii, 300 ≤ m.1 → m.1 % 10 < tt + 1 → bs x (24 + m.1 % 10) = true, ?_, ?_⟩
          · rintro x _ _ _ _ _ ⟨rfl, rfl, rfl, rfl, rfl, w1, w2, w3, w4, w5⟩ x_71 rfl
            exact ⟨_, by omega, tt + 1, by omega, rfl, nI_1 tt, rfl, rfl, rfl, rfl, w1, w2, w3, w4, w5⟩
          · refine pk_le (s_tt (tfm τ ii) tt) 0 (fun hz => ?_) (fun hz => ?_)
            · refine ⟨rfl, rfl, rfl, rfl, rfl, q1, q2, q3, q4, fun m hm h3 h4 => ?_⟩
              by_cases e : m.1 % 10 = tt
              · have := s_tt_pos.mpr ⟨m, hm, h3, e⟩; omega
              · exact q5 m hm h3 (by omega)
            · intro x_73 hx73
              subst hx73
              obtain ⟨m, hm, h3, h4⟩ := s_tt_pos.mp hz
              have hl : tcL x (x ||| ((1 : Int32) <<< (nI (24 + tt) &&& 31))) := fun k hk => by rw [b_or, hk]; rfl
              refine ⟨rfl, rfl, rfl, rfl, rfl, fun k hk => hl k (q1 k hk), ⟨fun k hk => hl k (q2.1 k hk), fun k hk => ?_, fun P hP hf k hk => ?_⟩, q3.mono hl, fun m hm h24 => hl _ (q4 m hm h24), fun m hm h3 h5 => ?_⟩
              · rw [b_or, Bool.or_eq_true, b_one (by omega), decide_eq_true_eq] at hk
                rcases hk with hk | hk
                · exact q2.2.1 k hk
                · omega
              · rw [b_or, Bool.or_eq_true, b_one (by omega), decide_eq_true_eq] at hk
                rcases hk with hk | hk
                · exact q2.2.2 P hP hf k hk
                · subst hk
                  have := hP.2.1 ii hlt2 (i2.2.2 P hP hf _ hin) m hm h3
                  rw [h4] at this
                  exact this
              · by_cases e : m.1 % 10 = tt
                · rw [e, b_or, b_one (by omega)]; simp
                · exact hl _ (q5 m hm h3 (by omega))
end TB
