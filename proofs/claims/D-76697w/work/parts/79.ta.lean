set_option maxRecDepth 100000
/-! THE REFERENCE's contracts: what is read, what is come to -/
section TA
variable {l : Launch} {g : zG} {d m0 : Nat} {τ τ' τm τ2 : tS} {hp : zHp} {nx : Nat}
/-- nothing but the arrays a and b of ints -/
def trf (a b : Nat) (τ τ' : tS) : Prop := τ'.1 = τ.1 ∧ τ'.2.1 = τ.2.1 ∧ τ'.2.2.2 = τ.2.2.2 ∧ ∀ k, k ≠ a → k ≠ b → τ'.2.2.1 k = τ.2.2.1 k
theorem trf.rf {a b : Nat} : trf a b τ τ := ⟨rfl, rfl, rfl, fun _ _ _ => rfl⟩
theorem trf.tr {a b : Nat} {x y z : tS} (h : trf a b x y) (h2 : trf a b y z) : trf a b x z := ⟨h2.1.trans h.1, h2.2.1.trans h.2.1, h2.2.2.1.trans h.2.2.1, fun k p q => (h2.2.2.2 k p q).trans (h.2.2.2 k p q)⟩
theorem trf.aI {a b k i : Nat} {f : Nat → Int32} (h : trf a b τ τ') (hk : k = a ∨ k = b) : trf a b τ (taI τ' k i f) := h.tr ⟨rfl, rfl, rfl, fun j p q => tqc (by omega)⟩
theorem trf.pe {a b : Nat} (ha : 14 ≤ a) (hb : 14 ≤ b) (h : trf a b τ τ') : tpe τ τ' := ⟨fun k hk => h.2.2.2 k (by omega) (by omega), fun k hk => by rw [h.2.2.1]⟩
theorem trf.sc {a b : Nat} (ha : (14 ≤ a ∧ a ≤ 29) ∨ a = 49 ∨ a = 50) (hb : (14 ≤ b ∧ b ≤ 29) ∨ b = 49 ∨ b = 50) (h : trf a b τ τ') : tsc τ τ' := ⟨fun k _ _ _ _ => by rw [h.1], fun k _ => by rw [h.2.1], fun k p q r => h.2.2.2 k (by omega) (by omega), fun k _ => by rw [h.2.2.1]⟩
def tRm (τ : tS) : Prop := ∀ x, x < 24 → τ.2.2.1 14 0 x ≠ 0 → τ.2.2.1 15 0 x = s_ms (s_RD (tfm τ) (tly τ) x) 24
theorem tly_none {t : Nat} : τ.2.2.1 6 0 t = 0 ↔ tly τ t = none := by
  unfold tly
  by_cases h : τ.2.2.1 6 0 t = 0
  · simp [h]
  · simp [h]
theorem t_readOf {rk : Nat → Nat} (hB : zB g ≤ m0) : ∀ (n d c : Nat) (τ : tS) (K : Int32 → zHp → Nat → Prop), c < 24 → rk c < n → rk c + 3 ≤ d → tOK rk τ → tNm τ → tRm τ → (∀ τ', trf 14 15 τ τ' → tRm τ' → K (s_ms (s_RD (tfm τ) (tly τ) c) 24) (tput g m0 τ' hp) nx) → zMt l g yX5_readOf cX5_readOf 4 (some .int) d 0 0 [.ref m0, .int (nI c)] (tput g m0 τ hp) nx (zQi g K) := by
  intro n
  induction n with
  | zero => intro d c τ K _ h; exact absurd h (Nat.not_lt_zero _)
  | succ n ih =>
    intro d c τ K hc hrk hd hO hN hM hK
    obtain ⟨d, rfl⟩ := Nat.exists_eq_add_of_le' (show 1 ≤ d by omega)
    apply met_X5_readOf
    unfold wp_X5_readOf
    have cc : (nI c).toNatClampNeg = c := nI_clamp (by omega)
    have ic : vp_in (nI c) 24 := vp_in_nI hc (by decide)
    have hB2 : ∀ n, zB g ≤ m0 + n := fun n => by omega
    have n1 : vp_nar .boolean 1 = 1 := by decide
    have hmo := hO.1.mo
    have hlt : ∀ x j, x < 24 → s_RD (tfm τ) (tly τ) x j → j < 24 := fun x j hx h => (s_RD_lt hO.2.2.1 hmo hO.2.2.2.1 _ x j (Nat.lt_succ_self _) hx h).1
    by_cases hh : τ.2.2.1 14 0 c = 0
    · simp only [tg_hasRead, ta_hasRead, tu_hasRead, cc, ic, hh, not_true_eq_false, true_implies, false_implies, implies_true, and_true, true_and, forall_eq, tw_zo]
      refine t_isInput' (by omega) hc ?_
      obtain ⟨s, hs96, hs, hmarks, hht⟩ := hO.1 c hc
      -- the start of the set
      obtain ⟨s0, hs0, e0⟩ : ∃ s0, (∀ j, bs s0 j = true ↔ (tfm τ c = [] ∧ j = c)) ∧ s0 = if (if τ.2.2.1 3 0 c = 0 then (1 : Int32) else 0) = 0 then 0 else (1 : Int32) <<< (nI c &&& 31) := by
        by_cases h3 : τ.2.2.1 3 0 c = 0
        · refine ⟨(1 : Int32) <<< (nI c &&& 31), fun j => ?_, by simp [h3]⟩
          rw [b_one (by omega), decide_eq_true_eq]
          have : tfm τ c = [] := by unfold tfm; rw [h3]; rfl
          simp [this]
        · refine ⟨0, fun j => ?_, by simp [h3]⟩
          rw [b_0]
          have : tfm τ c ≠ [] := by
            intro h
            have h2 := tfm_len hs hs96
            rw [h] at h2
            have h4 := congrArg List.length h2
            simp at h4
            rw [hs, ← h4] at h3
            exact h3 rfl
          simp [this]
      obtain ⟨P, hP⟩ : ∃ P : Int32 → zHp → Nat → Prop, P = (fun x h nx' => x = s0 ∧ h = tput g m0 τ hp ∧ nx = nx') := ⟨_, rfl⟩
      refine ⟨P, ?_, ?_, ?_⟩
      · intro x h nx' hh'
        rw [hP] at hh'
        obtain ⟨rfl, rfl, rfl⟩ := hh'
        refine ⟨fun n x i h nx' => ∃ ii τ1, ii ≤ 24 ∧ n = 24 - ii ∧ i = nI ii ∧ h = tput g m0 τ1 hp ∧ nx = nx' ∧ trf 14 15 τ τ1 ∧ tRm τ1 ∧ ∀ j, bs x j = true ↔ ((tfm τ c = [] ∧ j = c) ∨ ∃ m ∈ tfm τ c, m.1 < ii ∧ m.1 < 24 ∧ s_RD (tfm τ) (tly τ) m.1 j), ⟨24, 0, τ, by omega, rfl, rfl, rfl, rfl, trf.rf, hM, fun j => ?_⟩, ?_⟩
        · rw [hs0 j]
          constructor
          · exact Or.inl
          · rintro (h | ⟨m, _, h, _⟩)
            · exact h
            · omega
        rintro n x _ _ _ ⟨ii, τ1, hii, hn, rfl, rfl, rfl, f1, hM1, hx⟩
        refine pk_le 24 ii (fun hle => ?_) (fun hlt2 => ?_)
        · refine ⟨fun n x i h nx' => ∃ t τ1, t ≤ 6 ∧ n = 6 - t ∧ i = nI t ∧ h = tput g m0 τ1 hp ∧ nx = nx' ∧ trf 14 15 τ τ1 ∧ tRm τ1 ∧ ∀ j, bs x j = true ↔ ((tfm τ c = [] ∧ j = c) ∨ (∃ m ∈ tfm τ c, m.1 < 24 ∧ s_RD (tfm τ) (tly τ) m.1 j) ∨ ∃ m ∈ tfm τ c, 300 ≤ m.1 ∧ m.1 % 10 < t ∧ ∃ L, tly τ (m.1 % 10) = some L ∧ s_RD (tfm τ) (tly τ) L.1 j ∧ ¬ s_va L j), ⟨6, 0, τ1, by omega, rfl, rfl, rfl, rfl, f1, hM1, fun j => ?_⟩, ?_⟩
          · rw [hx j]
            constructor
            · rintro (h | ⟨m, h1, h2, h3, h4⟩)
              · exact Or.inl h
              · exact Or.inr (Or.inl ⟨m, h1, h3, h4⟩)
            · rintro (h | ⟨m, h1, h3, h4⟩ | ⟨m, _, _, h, _⟩)
              · exact Or.inl h
              · exact Or.inr ⟨m, h1, by omega, h3, h4⟩
              · omega
          rintro n x _ _ _ ⟨t, τ1, ht, hn, rfl, rfl, rfl, f1, hM1, hx⟩
          have pe1 := f1.pe (by decide) (by decide)
          refine pk_le 6 t (fun hle => ?_) (fun hlt3 => ?_)
          · have ex : x = s_ms (s_RD (tfm τ) (tly τ) c) 24 := by
              refine s_ms_eq (by decide) fun j => ?_
              rw [hx j]
              constructor
              · intro h
                have : s_RD (tfm τ) (tly τ) c j := by
                  refine (s_RD_st hO.2.2.1 hmo hO.2.2.2.1 hc j).mpr ?_
                  rcases h with h | h | ⟨m, h1, h2, h3, h4⟩
                  · exact Or.inl h
                  · exact Or.inr (Or.inl h)
                  · exact Or.inr (Or.inr ⟨m, h1, h2, h4⟩)
                exact ⟨hlt c j hc this, this⟩
              · rintro ⟨_, h⟩
                rcases (s_RD_st hO.2.2.1 hmo hO.2.2.2.1 hc j).mp h with h | h | ⟨m, h1, h2, h4⟩
                · exact Or.inl h
                · exact Or.inr (Or.inl h)
                · exact Or.inr (Or.inr ⟨m, h1, h2, by have := hmo c hc m h1 h2; omega, h4⟩)
            simp only [tg_hasRead, ta_hasRead, tu_hasRead, tg_read, ta_read, tu_read, cc, ic, hB2, n1, true_implies, false_implies, implies_true, and_true, true_and, forall_eq, tq1, tq3, tq4, tq5, tq7, tq8, tq9, tqa, tqc, tqd, tqe, tqf, tqg, tqh, tqj, va_s, ne_eq, reduceCtorEq, not_false_eq_true, not_true_eq_false, if_true, if_false, Nat.reduceEqDiff]
            rw [ex]
            refine hK _ ((f1.aI (Or.inl rfl)).aI (Or.inr rfl)) ?_
            intro y hy h
            have pe2 : tpe τ1 (taI (taI τ1 14 0 (va_up (τ1.2.2.1 14 0) c 1)) 15 0 (va_up (τ1.2.2.1 15 0) c (s_ms (s_RD (tfm τ) (tly τ) c) 24))) := ((trf.rf.aI (Or.inl rfl)).aI (Or.inr rfl) : trf 14 15 τ1 _).pe (by decide) (by decide)
            rw [pe2.fm, pe2.ly]
            simp only [tq1, tq3, tq4, tq5, tq7, tq8, tq9, tqa, tqc, tqd, tqe, tqf, tqg, tqh, tqj, va_s, ne_eq, reduceCtorEq, not_false_eq_true, not_true_eq_false, if_true, if_false, Nat.reduceEqDiff] at h ⊢
            by_cases e : y = c
            · subst e; rw [va_s, pe1.fm, pe1.ly]
            · rw [va_o e] at h ⊢
              exact hM1 y hy h
          · have ct : (nI t).toNatClampNeg = t := nI_clamp (by omega)
            have it : vp_in (nI t) 6 := vp_in_nI hlt3 (by decide)
            have k6 : τ1.2.2.1 6 0 t = τ.2.2.1 6 0 t := by rw [pe1.1 6 (by decide)]
            simp only [tg_laid, ta_laid, tu_laid, ct, it, k6, true_implies, false_implies, implies_true, and_true, true_and, forall_eq]
            have skip : (∀ m ∈ tfm τ c, 300 ≤ m.1 → m.1 % 10 = t → ∀ L, tly τ t ≠ some L) → ∀ j, bs x j = true ↔ ((tfm τ c = [] ∧ j = c) ∨ (∃ m ∈ tfm τ c, m.1 < 24 ∧ s_RD (tfm τ) (tly τ) m.1 j) ∨ ∃ m ∈ tfm τ c, 300 ≤ m.1 ∧ m.1 % 10 < t + 1 ∧ ∃ L, tly τ (m.1 % 10) = some L ∧ s_RD (tfm τ) (tly τ) L.1 j ∧ ¬ s_va L j) := by
              intro hno j
              rw [hx j]
              constructor
              · rintro (h | h | ⟨m, h1, h2, h3, h4⟩)
                · exact Or.inl h
                · exact Or.inr (Or.inl h)
                · exact Or.inr (Or.inr ⟨m, h1, h2, by omega, h4⟩)
              · rintro (h | h | ⟨m, h1, h2, h3, L, h4, h5⟩)
                · exact Or.inl h
                · exact Or.inr (Or.inl h)
                · by_cases e : m.1 % 10 = t
                  · rw [e] at h4; exact absurd h4 (hno m h1 h2 e L)
                  · exact Or.inr (Or.inr ⟨m, h1, h2, by omega, L, h4, h5⟩)
            refine ⟨fun x i h nx' => i = nI t ∧ ∃ τ2, h = tput g m0 τ2 hp ∧ nx = nx' ∧ trf 14 15 τ τ2 ∧ tRm τ2 ∧ ∀ j, bs x j = true ↔ ((tfm τ c = [] ∧ j = c) ∨ (∃ m ∈ tfm τ c, m.1 < 24 ∧ s_RD (tfm τ) (tly τ) m.1 j) ∨ ∃ m ∈ tfm τ c, 300 ≤ m.1 ∧ m.1 % 10 < t + 1 ∧ ∃ L, tly τ (m.1 % 10) = some L ∧ s_RD (tfm τ) (tly τ) L.1 j ∧ ¬ s_va L j), ?_, fun h6 => ?_, fun h6 => ?_⟩
            · rintro x _ _ _ ⟨rfl, τ2, rfl, rfl, f2, hM2, hx2⟩
              exact ⟨_, by omega, t + 1, τ2, by omega, rfl, nI_1 t, rfl, rfl, f2, hM2, hx2⟩
            · refine ⟨rfl, τ1, rfl, rfl, f1, hM1, skip fun m _ _ _ L hL => ?_⟩
              rw [tly_none.mp h6] at hL
              cases hL
            · rw [tw_zo]
              refine t_times' (by omega) hc hlt3 ?_
              have k13 : τ1.2.2.1 13 c t = nI (s_tt (tfm τ c) t) := by rw [pe1.1 13 (by decide)]; exact (hN c hc).2 t hlt3
              rw [k13]
              have hle96 : s_tt (tfm τ c) t ≤ 96 := Nat.le_trans s_tt_le (by rw [tfm_len hs hs96]; simpa using hs96)
              refine pk_le (s_tt (tfm τ c) t) 0 (fun hz => ?_) (fun hz => ?_)
              · refine ⟨rfl, τ1, rfl, rfl, f1, hM1, skip fun m hm h3 h4 L hL => ?_⟩
                have := s_tt_pos.mpr ⟨m, hm, h3, h4⟩
                omega
              · obtain ⟨L, hL⟩ : ∃ L, tly τ t = some L := by
                  cases hl : tly τ t with
                  | none => exact absurd (tly_none.mpr hl) h6
                  | some L => exact ⟨L, rfl⟩
                obtain ⟨m, hm, h3, h4⟩ := s_tt_pos.mp hz
                have hr1 := hO.2.2.1.2.1 c hc m hm h3
                rw [h4] at hr1
                have hr2 := hO.2.2.1.2.2 t hlt3 L hL
                obtain ⟨_, lo, la, e7, -⟩ := tly_some hO.2.1 hlt3 hL
                have k7 : τ1.2.2.1 7 0 t = nI L.1 := by rw [pe1.1 7 (by decide)]; exact e7
                have O1 := hO.pe pe1
                rw [tg_outputs, ta_outputs]
                refine ⟨it, ?_⟩
                rw [k7, tw_zo]
                refine ih d L.1 τ1 _ lo (by omega) (by omega) O1 (hN.pe pe1) hM1 fun τ2 f2 hM2 => ?_
                have pe2 := f2.pe (by decide) (by decide)
                rw [tw_zo]
                have ly2 : tly τ2 t = some L := by rw [pe2.ly, pe1.ly]; exact hL
                refine t_varied (by omega) (O1.pe pe2).2.1 hlt3 ly2 fun v hv => ?_
                refine ⟨rfl, τ2, rfl, rfl, f1.tr f2, hM2, fun j => ?_⟩
                rw [b_or, b_and, Bool.or_eq_true, Bool.and_eq_true, hx j, pe1.fm, pe1.ly, s_ms_b (by decide)]
                constructor
                · rintro ((h | h | ⟨m, h1, h2, h3, h4⟩) | ⟨⟨h1, h2⟩, h3⟩)
                  · exact Or.inl h
                  · exact Or.inr (Or.inl h)
                  · exact Or.inr (Or.inr ⟨m, h1, h2, by omega, h4⟩)
                  · rw [b_not (by omega)] at h3
                    refine Or.inr (Or.inr ⟨m, hm, by assumption, by omega, L, by rw [h4]; exact hL, h2, fun q => ?_⟩)
                    rw [(hv j).mpr q] at h3
                    cases h3
                · rintro (h | h | ⟨m, h1, h2, h3, L', h4, h5, h6⟩)
                  · exact Or.inl (Or.inl h)
                  · exact Or.inl (Or.inr (Or.inl h))
                  · by_cases e : m.1 % 10 = t
                    · rw [e, hL] at h4
                      cases h4
                      have hj := hlt L.1 j lo h5
                      refine Or.inr ⟨⟨hj, h5⟩, ?_⟩
                      rw [b_not (by omega)]
                      cases hb : bs v j with
                      | false => rfl
                      | true => exact absurd ((hv j).mp hb) h6
                    · exact Or.inl (Or.inr (Or.inr ⟨m, h1, h2, by omega, L', h4, h5, h6⟩))
        · rw [tw_zo]
          have pe1 := f1.pe (by decide) (by decide)
          refine t_namesCells' (by omega) hc ?_
          have k12 : τ1.2.2.1 12 0 c = τ.2.2.1 12 0 c := by rw [pe1.1 12 (by decide)]
          rw [k12]
          refine ⟨fun x i h nx' => i = nI ii ∧ ∃ τ2, h = tput g m0 τ2 hp ∧ nx = nx' ∧ trf 14 15 τ τ2 ∧ tRm τ2 ∧ ∀ j, bs x j = true ↔ ((tfm τ c = [] ∧ j = c) ∨ ∃ m ∈ tfm τ c, m.1 < ii + 1 ∧ m.1 < 24 ∧ s_RD (tfm τ) (tly τ) m.1 j), ?_, fun h => ?_, fun h => ?_⟩
          · rintro x _ _ _ ⟨rfl, τ2, rfl, rfl, f2, hM2, hx2⟩
            exact ⟨_, by omega, ii + 1, τ2, by omega, rfl, nI_1 ii, rfl, rfl, f2, hM2, hx2⟩
          · have hin := (b_t1 (by omega)).mp h
            obtain ⟨_, m, hm, em⟩ := ((hN c hc).1 ii).mp hin
            have hr1 := hO.2.2.1.1 c hc m hm (by omega)
            rw [em] at hr1
            rw [tw_zo]
            refine ih d ii τ1 _ hlt2 (by omega) (by omega) (hO.pe pe1) (hN.pe pe1) hM1 fun τ2 f2 hM2 => ?_
            refine ⟨rfl, τ2, rfl, rfl, f1.tr f2, hM2, fun j => ?_⟩
            rw [b_or, Bool.or_eq_true, hx j, pe1.fm, pe1.ly, s_ms_b (by decide)]
            constructor
            · rintro ((h | ⟨m, h1, h2, h3, h4⟩) | ⟨h1, h2⟩)
              · exact Or.inl h
              · exact Or.inr ⟨m, h1, by omega, h3, h4⟩
              · exact Or.inr ⟨m, hm, by omega, by omega, by rw [em]; exact h2⟩
            · rintro (h | ⟨m, h1, h2, h3, h4⟩)
              · exact Or.inl (Or.inl h)
              · by_cases e : m.1 = ii
                · rw [e] at h4; exact Or.inr ⟨hlt ii j hlt2 h4, h4⟩
                · exact Or.inl (Or.inr ⟨m, h1, by omega, h3, h4⟩)
          · have hnin : ¬ bs (τ.2.2.1 12 0 c) ii = true := fun q => h ((b_t1 (by omega)).mpr q)
            refine ⟨rfl, τ1, rfl, rfl, f1, hM1, fun j => ?_⟩
            rw [hx j]
            constructor
            · rintro (h | ⟨m, h1, h2, h3, h4⟩)
              · exact Or.inl h
              · exact Or.inr ⟨m, h1, by omega, h3, h4⟩
            · rintro (h | ⟨m, h1, h2, h3, h4⟩)
              · exact Or.inl h
              · refine Or.inr ⟨m, h1, ?_, h3, h4⟩
                by_cases e : m.1 = ii
                · exact absurd (((hN c hc).1 ii).mpr ⟨hlt2, m, h1, e⟩) hnin
                · omega
      · intro h
        rw [hP]
        rw [if_pos h] at e0
        exact ⟨e0.symm, rfl, rfl⟩
      · intro h
        rw [hP]
        rw [if_neg h] at e0
        exact ⟨e0.symm, rfl, rfl⟩
    · simp only [tg_hasRead, ta_hasRead, tu_hasRead, tg_read, ta_read, tu_read, cc, ic, hh, not_false_eq_true, true_implies, false_implies, implies_true, and_true, true_and, forall_eq]
      rw [hM c hc hh]
      exact hK τ trf.rf hM
theorem t_reads {rk : Nat → Nat} {c : Nat} {K : Int32 → zHp → Nat → Prop} (hd : 40 ≤ d) (hB : zB g ≤ m0) (hO : tOK rk τ) (hN : tNm τ) (hc : c < 24) (hK : ∀ τ', trf 14 15 τ τ' → K (s_ms (s_RD (tfm τ) (tly τ) c) 24) (tput g m0 τ' hp) nx) : zMt l g yX5_reads cX5_reads 3 (some .int) d 0 0 [.ref m0, .int (nI c)] (tput g m0 τ hp) nx (zQi g K) := by
  obtain ⟨d, rfl⟩ := Nat.exists_eq_add_of_le' (show 1 ≤ d by omega)
  apply met_X5_reads
  unfold wp_X5_reads
  have hB2 : ∀ n, zB g ≤ m0 + n := fun n => by omega
  have n0 : vp_nar .boolean 0 = 0 := by decide
  refine ⟨fun n x h nx' => ∃ i τ1, i ≤ 24 ∧ n = 24 - i ∧ x = nI i ∧ h = tput g m0 τ1 hp ∧ nx = nx' ∧ trf 14 15 τ τ1 ∧ ∀ j, j < i → τ1.2.2.1 14 0 j = 0, ⟨24, 0, τ, by omega, rfl, rfl, rfl, rfl, trf.rf, fun j hj => absurd hj (by omega)⟩, ?_⟩
  rintro n _ _ _ ⟨i, τ1, hi, hn, rfl, rfl, rfl, f1, h14⟩
  have pe1 := f1.pe (by decide) (by decide)
  refine pk_le 24 i (fun hle => ?_) (fun hlt => ?_)
  · rw [tw_zo]
    refine t_readOf hB 30 d c τ1 _ hc (hO.2.2.2.1 c (by omega)) (by have := hO.2.2.2.1 c (by omega); omega) (hO.pe pe1) (hN.pe pe1) (fun x hx h => absurd (h14 x (by omega)) h) fun τ2 f2 _ => ?_
    rw [pe1.fm, pe1.ly]
    exact hK τ2 (f1.tr f2)
  · have ci : (nI i).toNatClampNeg = i := nI_clamp (by omega)
    have ii : vp_in (nI i) 24 := vp_in_nI hlt (by decide)
    simp only [tg_hasRead, ta_hasRead, tu_hasRead, ci, ii, hB2, n0, true_implies, false_implies, implies_true, and_true, true_and, forall_eq]
    refine ⟨_, by omega, i + 1, _, by omega, rfl, nI_1 i, rfl, f1.aI (Or.inl rfl), fun j hj => ?_⟩
    rw [tqa]
    by_cases e : j = i
    · rw [e, va_s]
    · rw [va_o e]; exact h14 j (by omega)
end TA
