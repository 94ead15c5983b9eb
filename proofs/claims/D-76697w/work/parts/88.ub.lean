set_option maxRecDepth 100000
/-! THE REFERENCE: how often it is told; asks -/
section UB
variable {l : Launch} {g : zG} {d m0 : Nat} {τ τ' τm τ2 : tS} {hp : zHp} {nx : Nat}
def tlf (τ τ' : tS) : Prop := τ'.1 = τ.1 ∧ τ'.2.1 = τ.2.1 ∧ τ'.2.2.2 = τ.2.2.2 ∧ ∀ k, k ≠ 14 → k ≠ 15 → k ≠ 49 → k ≠ 50 → τ'.2.2.1 k = τ.2.2.1 k
theorem tlf.rf : tlf τ τ := ⟨rfl, rfl, rfl, fun _ _ _ _ _ => rfl⟩
theorem tlf.tr {x y z : tS} (h : tlf x y) (h2 : tlf y z) : tlf x z := ⟨h2.1.trans h.1, h2.2.1.trans h.2.1, h2.2.2.1.trans h.2.2.1, fun k p q r s => (h2.2.2.2 k p q r s).trans (h.2.2.2 k p q r s)⟩
theorem tlf.pe (h : tlf τ τ') : tpe τ τ' := ⟨fun k hk => h.2.2.2 k (by omega) (by omega) (by omega) (by omega), fun k hk => by rw [h.2.2.1]⟩
theorem tlf.sc (h : tlf τ τ') : tsc τ τ' := ⟨fun k _ _ _ _ => by rw [h.1], fun k _ => by rw [h.2.1], fun k p q r => h.2.2.2 k (by omega) (by omega) q r, fun k _ => by rw [h.2.2.1]⟩
theorem trf.lf (h : trf 14 15 τ τ') : tlf τ τ' := ⟨h.1, h.2.1, h.2.2.1, fun k p q _ _ => h.2.2.2 k p q⟩
theorem tlf.aI {k i : Nat} {f : Nat → Int32} (h : tlf τ τ') (hk : k = 49 ∨ k = 50) : tlf τ (taI τ' k i f) := h.tr ⟨rfl, rfl, rfl, fun j a b c e => tqc (by omega)⟩
def tLm (τ : tS) : Prop := ∀ u, u < 6 → τ.2.2.1 49 0 u ≠ 0 → τ.2.2.1 50 0 u = nI (s_TL (tfm τ) (tly τ) (tkd τ) u)
theorem tLm.lf (h : trf 14 15 τ τ') (hM : tLm τ) : tLm τ' := by
  intro u hu h2
  have pe := h.pe (by decide) (by decide)
  rw [h.2.2.2 49 (by decide) (by decide)] at h2
  rw [h.2.2.2 50 (by decide) (by decide), pe.fm, pe.ly, pe.kd]
  exact hM u hu h2
/-- the tables a formula asks: how often told, together -/
noncomputable def s_t1 (fm : sF) (ly : sY) (T : Nat → Nat) (c n : Nat) : Nat := s_sm (fun u => s_tt (fm c) u * (match ly u with | none => 0 | some _ => T u)) n
theorem s_tc_eq {T : Nat → Nat} {fm : sF} {ly : sY} {kd : Nat → Int32} {L : sL} {c : Nat} (hm : ∀ m ∈ fm c, 300 ≤ m.1 → m.1 % 10 < 6) : s_tc T fm ly kd L c = (1 + s_t1 fm ly T c 6) * s_if (s_RD fm ly c L.2.1) (s_ul (kd L.2.1) L.2.2.2.1) 1 * (match L.2.2.1 with | none => 1 | some o => s_if (s_RD fm ly c o) (s_ul (kd o) L.2.2.2.2) 1) := by
  unfold s_tc
  congr 3
  exact s_tt_sum (F := fun u => match ly u with | none => 0 | some _ => T u) hm
theorem t_toldLeast {rk : Nat → Nat} (hB : zB g ≤ m0) : ∀ (n d t : Nat) (L : sL) (τ : tS) (K : Int32 → zHp → Nat → Prop), t < 6 → rk (24 + t) < n → rk (24 + t) + 50 ≤ d → tOK rk τ → tNm τ → tly τ t = some L → tLm τ → (∀ τ', tlf τ τ' → tLm τ' → K (nI (s_TL (tfm τ) (tly τ) (tkd τ) t)) (tput g m0 τ' hp) nx) → zMt l g yX5_toldLeast cX5_toldLeast 7 (some .int) d 0 0 [.ref m0, .int (nI t)] (tput g m0 τ hp) nx (zQi g K) := by
  intro n
  induction n with
  | zero => intro d t L τ K _ h; exact absurd h (Nat.not_lt_zero _)
  | succ n ih =>
    intro d t L τ K ht hrk hd hO hN hL hM hK
    obtain ⟨d, rfl⟩ := Nat.exists_eq_add_of_le' (show 1 ≤ d by omega)
    apply met_X5_toldLeast
    unfold wp_X5_toldLeast
    obtain ⟨h6, lo, la, e7, e8, ⟨hn1, hn8, e10⟩, eax, hot⟩ := tly_some hO.2.1 ht hL
    have ct : (nI t).toNatClampNeg = t := nI_clamp (by omega)
    have it : vp_in (nI t) 6 := vp_in_nI ht (by decide)
    have hB2 : ∀ n, zB g ≤ m0 + n := fun n => by omega
    have n1 : vp_nar .boolean 1 = 1 := by decide
    have hmo := hO.1.mo
    have hrL := hO.2.2.1.2.2 t ht L hL
    have hlen : ∀ k, k < 24 → (tfm τ k).length ≤ 96 := by
      intro k hk
      obtain ⟨s, hs96, hs, -⟩ := hO.1 k hk
      rw [tfm_len hs hs96]
      simpa using hs96
    have hfx : ∀ k, k < 24 → (τ.2.2.1 3 0 k = 0 ↔ tfm τ k = []) := by
      intro k hk
      obtain ⟨s, hs96, hs, -⟩ := hO.1 k hk
      rw [tfm_len hs hs96, hs]
      by_cases e : s = 0
      · subst e; simp; rfl
      · simp [e]; exact nI_ne0 (by omega) (by omega)
    obtain ⟨T, hT⟩ : ∃ T, T = s_TL (tfm τ) (tly τ) (tkd τ) := ⟨_, rfl⟩
    obtain ⟨w, hw⟩ : ∃ w : Nat → Nat, w = fun c => s_if (s_RE (tfm τ) L.1 c ∧ tfm τ c ≠ []) (s_tc T (tfm τ) (tly τ) (tkd τ) L c) 0 := ⟨_, rfl⟩
    have eTL : s_TL (tfm τ) (tly τ) (tkd τ) t = s_sm w 24 := by
      rw [s_TL_st hO.2.2.1 hmo hO.2.2.2.1 ht]
      unfold s_ts
      rw [hL, hw, hT]
    by_cases hh : τ.2.2.1 49 0 t = 0
    · simp only [tg_hasLeast, ta_hasLeast, tu_hasLeast, tg_outputs, ta_outputs, tu_outputs, ct, it, hh, e7, not_true_eq_false, true_implies, false_implies, implies_true, and_true, true_and, forall_eq, tw_zo]
      refine t_reached (by omega) hO.2.2.1 hO.2.2.2.1 hN lo ?_
      obtain ⟨R, hR⟩ : ∃ R, R = s_ms (s_RE (tfm τ) L.1) 24 := ⟨_, rfl⟩
      rw [← hR]
      refine ⟨fun n x set' i h nx' => ∃ ii τ1, ii ≤ 24 ∧ n = 24 - ii ∧ i = nI ii ∧ R = set' ∧ h = tput g m0 τ1 hp ∧ nx = nx' ∧ tlf τ τ1 ∧ tLm τ1 ∧ x = nI (s_sm w ii), ⟨24, 0, τ, by omega, rfl, rfl, rfl, rfl, rfl, tlf.rf, hM, rfl⟩, ?_⟩
      rintro n _ _ _ _ _ ⟨ii, τ1, hii, hn, rfl, rfl, rfl, rfl, f1, hM1, rfl⟩
      have pe1 := f1.pe
      refine pk_le 24 ii (fun hle => ?_) (fun hlt => ?_)
      · have hie : ii = 24 := by omega
        subst hie
        simp only [tg_hasLeast, ta_hasLeast, tu_hasLeast, tg_least, ta_least, tu_least, ct, it, hB2, n1, true_implies, false_implies, implies_true, and_true, true_and, forall_eq, tq1, tq3, tq4, tq5, tq7, tq8, tq9, tqa, tqc, tqd, tqe, tqf, tqg, tqh, tqj, va_s, ne_eq, reduceCtorEq, not_false_eq_true, not_true_eq_false, if_true, if_false, Nat.reduceEqDiff]
        rw [← eTL]
        refine hK _ ((f1.aI (Or.inl rfl)).aI (Or.inr rfl)) ?_
        intro y hy h
        have pe2 : tpe τ1 (taI (taI τ1 49 0 (va_up (τ1.2.2.1 49 0) t 1)) 50 0 (va_up (τ1.2.2.1 50 0) t (nI (s_TL (tfm τ) (tly τ) (tkd τ) t)))) := ((tlf.rf.aI (Or.inl rfl)).aI (Or.inr rfl) : tlf τ1 _).pe
        rw [pe2.fm, pe2.ly, pe2.kd]
        simp only [tq1, tq3, tq4, tq5, tq7, tq8, tq9, tqa, tqc, tqd, tqe, tqf, tqg, tqh, tqj, va_s, ne_eq, reduceCtorEq, not_false_eq_true, not_true_eq_false, if_true, if_false, Nat.reduceEqDiff] at h ⊢
        by_cases e : y = t
        · subst e; rw [va_s, pe1.fm, pe1.ly, pe1.kd]
        · rw [va_o e] at h ⊢
          exact hM1 y hy h
      · refine ⟨fun x set' i h nx' => i = nI ii ∧ R = set' ∧ ∃ τ2, h = tput g m0 τ2 hp ∧ nx = nx' ∧ tlf τ τ2 ∧ tLm τ2 ∧ x = nI (s_sm w (ii + 1)), ?_, fun h => ?_, fun h => ?_⟩
        · rintro _ _ _ _ _ ⟨rfl, rfl, τ2, rfl, rfl, f2, hM2, rfl⟩
          exact ⟨24 - (ii + 1), by omega, ii + 1, τ2, by omega, rfl, nI_1 ii, rfl, rfl, rfl, f2, hM2, rfl⟩
        · have hnin := (b_t0 (by omega)).mp h
          have hz : w ii = 0 := by
            rw [hw]
            refine s_if_n fun q => hnin ?_
            rw [hR]
            exact (s_ms_b (by decide)).mpr ⟨hlt, q.1⟩
          refine ⟨rfl, rfl, τ1, rfl, rfl, f1, hM1, ?_⟩
          simp only [s_sm, hz, Nat.add_zero]
        · have hin : bs R ii = true := Classical.byContradiction fun q => h ((b_t0 (by omega)).mpr q)
          rw [hR, s_ms_b (by decide)] at hin
          rw [tw_zo]
          refine t_isInput' (by omega) hlt ?_
          have k3 : τ1.2.2.1 3 0 ii = τ.2.2.1 3 0 ii := by rw [pe1.1 3 (by decide)]
          rw [k3]
          by_cases h3 : τ.2.2.1 3 0 ii = 0
          · have hz : w ii = 0 := by rw [hw]; exact s_if_n fun q => q.2 ((hfx ii hlt).mp h3)
            rw [if_pos h3]
            refine ⟨fun q => absurd q (by decide), fun _ => ⟨rfl, rfl, τ1, rfl, rfl, f1, hM1, ?_⟩⟩
            simp only [s_sm, hz, Nat.add_zero]
          · have hfne : tfm τ ii ≠ [] := fun q => h3 ((hfx ii hlt).mpr q)
            have hz : w ii = s_tc T (tfm τ) (tly τ) (tkd τ) L ii := by rw [hw]; exact s_if_p ⟨hin.2, hfne⟩
            rw [s_tc_eq (hmo ii hlt)] at hz
            have hrr := s_RE_rk hO.2.2.1 hO.2.2.2.1 lo hin.2
            rw [if_neg h3]
            refine ⟨fun _ => ?_, fun q => absurd rfl q⟩
            refine ⟨fun n x set' i m u h nx' => ∃ uu τ2, uu ≤ 6 ∧ n = 6 - uu ∧ u = nI uu ∧ i = nI ii ∧ R = set' ∧ h = tput g m0 τ2 hp ∧ nx = nx' ∧ tlf τ τ2 ∧ tLm τ2 ∧ x = nI (s_sm w ii) ∧ m = nI (1 + s_t1 (tfm τ) (tly τ) T ii uu), ⟨6, 0, τ1, by omega, rfl, rfl, rfl, rfl, rfl, rfl, f1, hM1, rfl, rfl⟩, ?_⟩
            rintro n _ _ _ _ _ _ _ ⟨uu, τ2, huu, hn, rfl, rfl, rfl, rfl, rfl, f2, hM2, rfl, rfl⟩
            have pe2 := f2.pe
            have hRDlt : ∀ x, s_RD (tfm τ) (tly τ) ii x → x < 24 := fun x hx => (s_RD_lt hO.2.2.1 hmo hO.2.2.2.1 _ ii x (Nat.lt_succ_self _) hlt hx).1
            refine pk_le 6 uu (fun hle => ?_) (fun hlt3 => ?_)
            · have hue : uu = 6 := by omega
              subst hue
              rw [tw_zo]
              refine t_reads (by omega) hB (hO.pe pe2) (hN.pe pe2) hlt fun τ3 f3 => ?_
              have f23 := f2.tr f3.lf
              have hM3 := hM2.lf f3
              have pe3 := f23.pe
              have O3 := hO.pe pe3
              have ly3 : tly τ3 t = some L := by rw [pe3.ly]; exact hL
              have st3 : tst τ3 = tst τ := pe3.st
              rw [pe2.fm, pe2.ly]
              obtain ⟨D, hD⟩ : ∃ D, D = s_ms (s_RD (tfm τ) (tly τ) ii) 24 := ⟨_, rfl⟩
              rw [← hD]
              have hDb : ∀ x, bs D x = true ↔ s_RD (tfm τ) (tly τ) ii x := fun x => by
                rw [hD, s_ms_b (by decide)]
                exact ⟨fun q => q.2, fun q => ⟨hRDlt x q, q⟩⟩
              have k8 : τ3.2.2.1 8 0 t = nI L.2.1 := by rw [pe3.1 8 (by decide)]; exact e8
              have k9 : τ3.2.2.1 9 0 t = τ.2.2.1 9 0 t := by rw [pe3.1 9 (by decide)]
              rw [tg_ones, ta_ones]
              refine ⟨it, ?_⟩
              rw [k8]
              refine ⟨fun x set' i m D' h nx' => i = nI ii ∧ R = set' ∧ D = D' ∧ h = tput g m0 τ3 hp ∧ nx = nx' ∧ x = nI (s_sm w ii) ∧ m = nI ((1 + s_t1 (tfm τ) (tly τ) T ii 6) * s_if (s_RD (tfm τ) (tly τ) ii L.2.1) (s_ul (tkd τ L.2.1) L.2.2.2.1) 1), ?_, fun q => ?_, fun q => ?_⟩
              · rintro _ _ _ _ _ _ _ ⟨rfl, rfl, rfl, rfl, rfl, rfl, rfl⟩
                rw [tg_others, ta_others]
                refine ⟨it, ?_⟩
                rw [k9]
                refine ⟨fun x set' i m D' h nx' => i = nI ii ∧ R = set' ∧ h = tput g m0 τ3 hp ∧ nx = nx' ∧ x = nI (s_sm w ii) ∧ m = nI (w ii), ?_, fun q => ?_, fun q => ?_⟩
                · rintro _ _ _ _ _ _ _ ⟨rfl, rfl, rfl, rfl, rfl, rfl⟩
                  rw [nI_add]
                  exact ⟨rfl, rfl, τ3, rfl, rfl, f23, hM3, rfl⟩
                · rcases hot with ⟨h9, n9, b9, my⟩ | ⟨b, hb, hba, my1, my8, h9, n9, e11, s9, eb⟩
                  · rw [n9] at hz
                    simp only [Nat.mul_one] at hz
                    exact ⟨rfl, rfl, rfl, rfl, rfl, by rw [hz]⟩
                  · exact absurd q n9
                · rcases hot with ⟨h9, n9, b9, my⟩ | ⟨b, hb, hba, my1, my8, h9, n9, e11, s9, eb⟩
                  · exact absurd h9 q
                  · rw [s9] at hz
                    simp only at hz
                    rw [tg_others, ta_others]
                    refine ⟨it, ?_⟩
                    rw [k9, h9]
                    refine ⟨fun z => ?_, fun z => ?_⟩
                    · have zz := (hDb b).mp ((b_t1 (by omega)).mp z)
                      rw [tw_zo]
                      refine t_unlikeOnes (w := 1) (L := L) (by omega) hB O3 ht (by decide) ly3 ?_
                      rw [st3, pk_mul]
                      refine ⟨rfl, rfl, rfl, rfl, rfl, ?_⟩
                      rw [hz, s_if_p zz]
                      unfold s_uo
                      rw [if_neg (by decide), s9]
                      rfl
                    · have zz : ¬ s_RD (tfm τ) (tly τ) ii b := fun y => z ((b_t1 (by omega)).mpr ((hDb b).mpr y))
                      refine ⟨rfl, rfl, rfl, rfl, rfl, ?_⟩
                      rw [hz, s_if_n zz, Nat.mul_one]
              · have zz := (hDb L.2.1).mp ((b_t1 (by omega)).mp q)
                rw [tw_zo]
                refine t_unlikeOnes (w := 0) (L := L) (by omega) hB O3 ht (by decide) ly3 ?_
                rw [st3, pk_mul]
                refine ⟨rfl, rfl, rfl, rfl, rfl, rfl, ?_⟩
                rw [s_if_p zz]
                unfold s_uo
                rw [if_pos rfl]
                rfl
              · have zz : ¬ s_RD (tfm τ) (tly τ) ii L.2.1 := fun y => q ((b_t1 (by omega)).mpr ((hDb L.2.1).mpr y))
                refine ⟨rfl, rfl, rfl, rfl, rfl, rfl, ?_⟩
                rw [s_if_n zz, Nat.mul_one]
            · have cu : (nI uu).toNatClampNeg = uu := nI_clamp (by omega)
              have iu : vp_in (nI uu) 6 := vp_in_nI hlt3 (by decide)
              have k6 : τ2.2.2.1 6 0 uu = τ.2.2.1 6 0 uu := by rw [pe2.1 6 (by decide)]
              rw [tg_laid, ta_laid]
              refine ⟨iu, ?_⟩
              rw [cu, k6]
              refine ⟨fun x set' i m u h nx' => u = nI uu ∧ i = nI ii ∧ R = set' ∧ ∃ τ3, h = tput g m0 τ3 hp ∧ nx = nx' ∧ tlf τ τ3 ∧ tLm τ3 ∧ x = nI (s_sm w ii) ∧ m = nI (1 + s_t1 (tfm τ) (tly τ) T ii (uu + 1)), ?_, fun h6 => ?_, fun h6 => ?_⟩
              · rintro _ _ _ _ _ _ _ ⟨rfl, rfl, rfl, τ3, rfl, rfl, f3, hM3, rfl, rfl⟩
                exact ⟨6 - (uu + 1), by omega, uu + 1, τ3, by omega, rfl, nI_1 uu, rfl, rfl, rfl, rfl, f3, hM3, rfl, rfl⟩
              · refine ⟨rfl, rfl, rfl, τ2, rfl, rfl, f2, hM2, rfl, ?_⟩
                simp only [s_t1, s_sm, tly_none.mp h6, Nat.mul_zero, Nat.add_zero]
              · obtain ⟨U, hU⟩ : ∃ U, tly τ uu = some U := by
                  cases hl : tly τ uu with
                  | none => exact absurd (tly_none.mpr hl) h6
                  | some L => exact ⟨L, rfl⟩
                have k13 : τ2.2.2.1 13 ii uu = nI (s_tt (tfm τ ii) uu) := by rw [pe2.1 13 (by decide)]; exact (hN ii hlt).2 uu hlt3
                have hle96 : s_tt (tfm τ ii) uu ≤ 96 := Nat.le_trans s_tt_le (hlen ii hlt)
                rw [tw_zo]
                refine t_times' (by omega) hlt hlt3 ?_
                rw [k13]
                refine pk_le (s_tt (tfm τ ii) uu) 0 (fun hz0 => ?_) (fun hz0 => ?_)
                · refine ⟨rfl, rfl, rfl, τ2, rfl, rfl, f2, hM2, rfl, ?_⟩
                  have : s_tt (tfm τ ii) uu = 0 := by omega
                  simp only [s_t1, s_sm, this, Nat.zero_mul, Nat.add_zero]
                · rw [tw_zo]
                  refine t_times' (by omega) hlt hlt3 ?_
                  rw [k13, tw_zo]
                  obtain ⟨m, hm, h3', h4⟩ := s_tt_pos.mp hz0
                  have hr1 := hO.2.2.1.2.1 ii hlt m hm h3'
                  rw [h4] at hr1
                  refine ih d uu U τ2 _ hlt3 (by omega) (by omega) (hO.pe pe2) (hN.pe pe2) (by rw [pe2.ly]; exact hU) hM2 fun τ3 f3 hM3 => ?_
                  rw [pe2.fm, pe2.ly, pe2.kd, ← hT, pk_mul, nI_add]
                  refine ⟨rfl, rfl, rfl, τ3, rfl, rfl, f2.tr f3, hM3, rfl, ?_⟩
                  simp only [s_t1, s_sm, hU, Nat.add_assoc]
    · simp only [tg_hasLeast, ta_hasLeast, tu_hasLeast, tg_least, ta_least, tu_least, ct, it, hh, not_false_eq_true, true_implies, false_implies, implies_true, and_true, true_and, forall_eq]
      rw [hM t ht hh]
      exact hK τ tlf.rf hM
end UB
