set_option maxRecDepth 100000
/-! THE REFERENCE's contracts: a cell is told -/
section T7
variable {l : Launch} {g : zG} {d m0 : Nat} {τ τ' τm τ2 : tS} {hp : zHp} {nx : Nat}
theorem t_isInput' {c : Nat} (hd : 1 ≤ d) (hc : c < 24) {K : Int32 → zHp → Nat → Prop} (hK : K (if τ.2.2.1 3 0 c = 0 then 1 else 0) (tput g m0 τ hp) nx) : zMt l g yX5_isInput cX5_isInput 2 (some .boolean) d 0 0 [.ref m0, .int (nI c)] (tput g m0 τ hp) nx (zQi g K) := by
  obtain ⟨d, rfl⟩ := Nat.exists_eq_add_of_le' hd
  exact t_isInput hc hK
theorem tMem_tell {dp c : Nat} (hm : tMem τ dp) (hpe : tpe τ τ') (h19 : ∀ x, x ≠ c → τ'.2.2.1 19 dp x = τ.2.2.1 19 dp x) (h20 : ∀ x, x ≠ c → τ'.2.2.2 20 dp x = τ.2.2.2 20 dp x) (h21 : ∀ x, x ≠ c → τ'.2.2.1 21 dp x = τ.2.2.1 21 dp x) (h22 : ∀ x, x ≠ c → τ'.2.2.1 22 dp x = τ.2.2.1 22 dp x) (h23 : τ'.2.2.1 23 dp = τ.2.2.1 23 dp) (h24 : τ'.2.2.2 24 dp = τ.2.2.2 24 dp) (h25 : τ'.2.2.1 25 dp = τ.2.2.1 25 dp) (hv : tVal τ' dp c (tEV τ c)) : tMem τ' dp := by
  refine ⟨fun x hx h => ?_, fun u hu h f hf => ?_⟩
  · rw [hpe.EV]
    by_cases e : x = c
    · subst e; exact hv
    · rw [h19 x e] at h
      unfold tVal
      rw [h20 x e, h21 x e, h22 x e]
      exact hm.1 x hx h
  · rw [h23] at h
    rw [h24, h25, hpe.TV]
    exact hm.2 u hu h f hf
theorem t_tell (hB : zB g ≤ m0) (rk : Nat → Nat) : ∀ n, tTell l g m0 hp nx rk n := by
  intro n
  induction n with
  | zero => intro d dp tp c τ K hc h; exact absurd h (Nat.not_lt_zero _)
  | succ n ih =>
    intro d dp tp c τ K hc hrk hd hO hdp h18 h26 htp hm hK
    obtain ⟨d, rfl⟩ := Nat.exists_eq_add_of_le' (show 1 ≤ d by omega)
    apply met_X5_tell
    unfold wp_X5_tell
    have cd : (nI dp).toNatClampNeg = dp := nI_clamp (by omega)
    have id : vp_in (nI dp) 7 := vp_in_nI (by omega) (by decide)
    have ld : dp < 7 := by omega
    have cc : (nI c).toNatClampNeg = c := nI_clamp (by omega)
    have ic : vp_in (nI c) 24 := vp_in_nI hc (by decide)
    have hB2 : ∀ n, zB g ≤ m0 + n := fun n => by omega
    have hB3 : ∀ a b n, zB g ≤ m0 + a + b + n := fun a b n => by omega
    have n1 : vp_nar .boolean 1 = 1 := by decide
    by_cases ht : τ.2.2.1 19 dp c ≠ 0
    · have ht' : ¬ τ.2.2.1 19 dp c = 0 := ht
      simp only [tg_told, ta_told, tg_deep, tp_deep, h18, cd, id, tb_told ld, tv_told ld, cc, ic, true_implies, false_implies, implies_true, and_true, true_and, forall_eq, ht', not_false_eq_true]
      exact hK τ tfr.rf h26 hm ht
    have ht : τ.2.2.1 19 dp c = 0 := Classical.not_not.mp ht
    simp only [tg_told, ta_told, tg_deep, tp_deep, h18, cd, id, tb_told ld, tv_told ld, cc, ic, true_implies, false_implies, implies_true, and_true, true_and, forall_eq, ht, not_true_eq_false, tw_zo]
    obtain ⟨s, hs96, hs, hmarks, hht⟩ := hO.1 c hc
    refine t_isInput' (by omega) hc ?_
    have cs : (nI s).toNatClampNeg = s := nI_clamp (by omega)
    have fr4 : ∀ (τ1 : tS), tfr dp tp τ τ1 → ∀ (v : UInt64) (e b : Int32), tfr dp tp τ (taI (taI (taI (taD τ1 20 dp (va_up (τ1.2.2.2 20 dp) c v)) 21 dp (va_up (τ1.2.2.1 21 dp) c e)) 22 dp (va_up (τ1.2.2.1 22 dp) c b)) 19 dp (va_up (τ1.2.2.1 19 dp) c 1)) := fun τ1 f1 v e b => (((f1.aD ⟨by decide, Nat.le_refl _⟩).aI ⟨by decide, Nat.le_refl _⟩).aI ⟨by decide, Nat.le_refl _⟩).aI ⟨by decide, Nat.le_refl _⟩
    have fin : ∀ (τ1 : tS), tfr dp tp τ τ1 → τ1.1 26 = nI tp → tMem τ1 dp → ∀ (v : UInt64) (e b : Int32), tEV τ c = (v, e, b) → K (tput g m0 (taI (taI (taI (taD τ1 20 dp (va_up (τ1.2.2.2 20 dp) c v)) 21 dp (va_up (τ1.2.2.1 21 dp) c e)) 22 dp (va_up (τ1.2.2.1 22 dp) c b)) 19 dp (va_up (τ1.2.2.1 19 dp) c 1)) hp) nx := by
      intro τ1 f1 k26 km v e b he
      have pe1 : tpe τ1 (taI (taI (taI (taD τ1 20 dp (va_up (τ1.2.2.2 20 dp) c v)) 21 dp (va_up (τ1.2.2.1 21 dp) c e)) 22 dp (va_up (τ1.2.2.1 22 dp) c b)) 19 dp (va_up (τ1.2.2.1 19 dp) c 1)) := ((((tfr.rf (dp := dp) (tp := tp).aD ⟨by decide, Nat.le_refl _⟩).aI ⟨by decide, Nat.le_refl _⟩).aI ⟨by decide, Nat.le_refl _⟩).aI ⟨by decide, Nat.le_refl _⟩).pe
      refine hK _ (fr4 τ1 f1 v e b) (by simp only [tq1, tq3, tq4, tq5, tq7, tq8, tq9, tqa, tqc, tqd, tqe, tqf, tqg, tqh, tqj, va_s, ne_eq, reduceCtorEq, not_false_eq_true, not_true_eq_false, if_true, if_false, Nat.reduceEqDiff]; exact k26) (tMem_tell (c := c) km pe1 (fun x hx => ?_) (fun x hx => ?_) (fun x hx => ?_) (fun x hx => ?_) ?_ ?_ ?_ ?_) ?_
      · simp only [tq1, tq3, tq4, tq5, tq7, tq8, tq9, tqa, tqc, tqd, tqe, tqf, tqg, tqh, tqj, va_s, ne_eq, reduceCtorEq, not_false_eq_true, not_true_eq_false, if_true, if_false, Nat.reduceEqDiff]; exact va_o hx
      · simp only [tq1, tq3, tq4, tq5, tq7, tq8, tq9, tqa, tqc, tqd, tqe, tqf, tqg, tqh, tqj, va_s, ne_eq, reduceCtorEq, not_false_eq_true, not_true_eq_false, if_true, if_false, Nat.reduceEqDiff]; exact va_o hx
      · simp only [tq1, tq3, tq4, tq5, tq7, tq8, tq9, tqa, tqc, tqd, tqe, tqf, tqg, tqh, tqj, va_s, ne_eq, reduceCtorEq, not_false_eq_true, not_true_eq_false, if_true, if_false, Nat.reduceEqDiff]; exact va_o hx
      · simp only [tq1, tq3, tq4, tq5, tq7, tq8, tq9, tqa, tqc, tqd, tqe, tqf, tqg, tqh, tqj, va_s, ne_eq, reduceCtorEq, not_false_eq_true, not_true_eq_false, if_true, if_false, Nat.reduceEqDiff]; exact va_o hx
      · simp only [tq1, tq3, tq4, tq5, tq7, tq8, tq9, tqa, tqc, tqd, tqe, tqf, tqg, tqh, tqj, va_s, ne_eq, reduceCtorEq, not_false_eq_true, not_true_eq_false, if_true, if_false, Nat.reduceEqDiff]
      · simp only [tq1, tq3, tq4, tq5, tq7, tq8, tq9, tqa, tqc, tqd, tqe, tqf, tqg, tqh, tqj, va_s, ne_eq, reduceCtorEq, not_false_eq_true, not_true_eq_false, if_true, if_false, Nat.reduceEqDiff]
      · simp only [tq1, tq3, tq4, tq5, tq7, tq8, tq9, tqa, tqc, tqd, tqe, tqf, tqg, tqh, tqj, va_s, ne_eq, reduceCtorEq, not_false_eq_true, not_true_eq_false, if_true, if_false, Nat.reduceEqDiff]
      · rw [f1.pe.EV, he]
        unfold tVal
        simp only [tq1, tq3, tq4, tq5, tq7, tq8, tq9, tqa, tqc, tqd, tqe, tqf, tqg, tqh, tqj, va_s, ne_eq, reduceCtorEq, not_false_eq_true, not_true_eq_false, if_true, if_false, Nat.reduceEqDiff]
        exact ⟨trivial, trivial, trivial⟩
      · simp only [tq1, tq3, tq4, tq5, tq7, tq8, tq9, tqa, tqc, tqd, tqe, tqf, tqg, tqh, tqj, va_s, ne_eq, reduceCtorEq, not_false_eq_true, not_true_eq_false, if_true, if_false, Nat.reduceEqDiff]; decide
    by_cases hs0 : s = 0
    · -- an input
      have e3 : τ.2.2.1 3 0 c = 0 := by rw [hs, hs0]; rfl
      have hev := tEV_in hO hc e3
      rw [e3, if_pos rfl]
      simp only [show ¬ (1 : Int32) = 0 by decide, not_false_eq_true, true_implies, false_implies, implies_true, and_true, true_and, forall_eq]
      by_cases hg : τ.2.2.1 1 0 c = 0
      · have ho : tow τ c = none := by unfold tow; rw [if_pos hg]
        rw [ho] at hev
        refine ⟨_, fun _ _ h => h, ?_⟩
        simp only [tg_values, ta_values, tg_deep, tp_deep, tg_given, ta_given, tu_given, h18, cd, id, cc, ic, hg, true_implies, false_implies, implies_true, and_true, true_and, forall_eq, not_true_eq_false]
        refine ⟨_, fun _ _ _ _ _ h => h, ?_⟩
        simp only [tg_errors, ta_errors, tg_deep, tp_deep, tg_given, ta_given, tu_given, tb_values ld, tv_values ld, h18, cd, id, cc, ic, hg, true_implies, false_implies, implies_true, and_true, true_and, forall_eq, hB3, not_true_eq_false, tq1, tq3, tq4, tq5, tq7, tq8, tq9, tqa, tqc, tqd, tqe, tqf, tqg, tqh, tqj, va_s, ne_eq, reduceCtorEq, not_false_eq_true, not_true_eq_false, if_true, if_false, Nat.reduceEqDiff]
        refine ⟨_, fun _ _ _ _ _ h => h, ?_⟩
        simp only [tg_blames, ta_blames, tg_deep, tp_deep, tg_given, ta_given, tu_given, tb_errors ld, tv_errors ld, h18, cd, id, cc, ic, hg, true_implies, false_implies, implies_true, and_true, true_and, forall_eq, hB3, not_true_eq_false, tq1, tq3, tq4, tq5, tq7, tq8, tq9, tqa, tqc, tqd, tqe, tqf, tqg, tqh, tqj, va_s, ne_eq, reduceCtorEq, not_false_eq_true, not_true_eq_false, if_true, if_false, Nat.reduceEqDiff]
        refine ⟨_, fun _ _ _ _ _ h => h, ?_⟩
        simp only [tg_told, ta_told, tg_deep, tp_deep, tb_blames ld, tv_blames ld, tb_told ld, tv_told ld, h18, cd, id, cc, ic, hg, true_implies, false_implies, implies_true, and_true, true_and, forall_eq, hB3, n1, tq1, tq3, tq4, tq5, tq7, tq8, tq9, tqa, tqc, tqd, tqe, tqf, tqg, tqh, tqj, va_s, ne_eq, reduceCtorEq, not_false_eq_true, not_true_eq_false, if_true, if_false, Nat.reduceEqDiff]
        exact fin τ tfr.rf h26 hm _ _ _ hev
      · have ho : tow τ c = some (τ.2.2.2 2 0 c) := by unfold tow; rw [if_neg hg]
        rw [ho] at hev
        refine ⟨_, fun _ _ h => h, ?_⟩
        simp only [tg_values, ta_values, tg_deep, tp_deep, tg_given, ta_given, tu_given, tg_kinds, ta_kinds, tu_kinds, tg_numbers, ta_numbers, tu_numbers, h18, cd, id, cc, ic, hg, true_implies, false_implies, implies_true, and_true, true_and, forall_eq, not_false_eq_true]
        refine ⟨_, fun _ _ _ _ _ h => h, ?_⟩
        refine t_kept (by omega) (hO.2.2.2.2.2.2.1 c _ ho) ?_
        simp only [tg_errors, ta_errors, tg_deep, tp_deep, tg_given, ta_given, tu_given, tb_values ld, tv_values ld, h18, cd, id, cc, ic, hg, true_implies, false_implies, implies_true, and_true, true_and, forall_eq, hB3, tq1, tq3, tq4, tq5, tq7, tq8, tq9, tqa, tqc, tqd, tqe, tqf, tqg, tqh, tqj, va_s, ne_eq, reduceCtorEq, not_false_eq_true, not_true_eq_false, if_true, if_false, Nat.reduceEqDiff]
        refine ⟨_, fun _ _ _ _ _ h => h, ?_⟩
        simp only [tg_blames, ta_blames, tg_deep, tp_deep, tg_given, ta_given, tu_given, tb_errors ld, tv_errors ld, h18, cd, id, cc, ic, hg, true_implies, false_implies, implies_true, and_true, true_and, forall_eq, hB3, tq1, tq3, tq4, tq5, tq7, tq8, tq9, tqa, tqc, tqd, tqe, tqf, tqg, tqh, tqj, va_s, ne_eq, reduceCtorEq, not_false_eq_true, not_true_eq_false, if_true, if_false, Nat.reduceEqDiff]
        refine ⟨_, fun _ _ _ _ _ h => h, ?_⟩
        simp only [tg_told, ta_told, tg_deep, tp_deep, tb_blames ld, tv_blames ld, tb_told ld, tv_told ld, h18, cd, id, cc, ic, hg, true_implies, false_implies, implies_true, and_true, true_and, forall_eq, hB3, n1, tq1, tq3, tq4, tq5, tq7, tq8, tq9, tqa, tqc, tqd, tqe, tqf, tqg, tqh, tqj, va_s, ne_eq, reduceCtorEq, not_false_eq_true, not_true_eq_false, if_true, if_false, Nat.reduceEqDiff]
        exact fin τ tfr.rf h26 hm _ _ _ hev
    · -- a formula
      have e3 : ¬ τ.2.2.1 3 0 c = 0 := by rw [hs]; exact nI_ne0 (by omega) (by omega)
      have hlen : (tfm τ c).length = s := by rw [tfm_len hs hs96]; simp
      have hne : tfm τ c ≠ [] := fun h => by rw [h] at hlen; exact hs0 hlen.symm
      have hht := hht hs0
      have hev := tEV_fm hO hc hne
      have hget : ∀ k, k < s → (tfm τ c)[k]? = some (tmk τ c k) := fun k hk => by
        rw [tfm_len hs hs96, List.getElem?_map, List.getElem?_range hk]
        rfl
      obtain ⟨R, hR⟩ : ∃ R : Nat → List sT, R = fun k => s_run (tEV τ) (tTV τ) c ((tfm τ c).take k) [] := ⟨_, rfl⟩
      have hRs : ∀ k, k < s → R (k + 1) = s_act (tEV τ) (tTV τ) c (tmk τ c k) (R k) := fun k hk => by
        rw [hR]
        simp only
        rw [List.take_succ, hget k hk, s_run_append]
        rfl
      have hht' : ∀ k, k < s → ∃ h j, s_ht ((tfm τ c).take k) 0 = some h ∧ s_h1 (tmk τ c k).1 h = some j := fun k hk => by
        have e := List.take_append_drop k (tfm τ c)
        have hk' : k < (tfm τ c).length := by omega
        rw [← e, s_ht_append] at hht
        cases h1 : s_ht ((tfm τ c).take k) 0 with
        | none => rw [h1] at hht; cases hht
        | some h =>
          rw [h1] at hht
          have h2 := List.drop_eq_getElem_cons hk'
          have h3 : (tfm τ c)[k] = tmk τ c k := by
            have := hget k hk
            rw [List.getElem?_eq_getElem hk'] at this
            exact Option.some.inj this
          rw [h3] at h2
          rw [h2] at hht
          have hht : (s_h1 (tmk τ c k).1 h).bind (s_ht (List.drop (k + 1) (tfm τ c))) = some 1 := hht
          cases h4 : s_h1 (tmk τ c k).1 h with
          | none => rw [h4] at hht; cases hht
          | some j => exact ⟨h, j, rfl, h4⟩
      have hRl : ∀ k h, s_ht ((tfm τ c).take k) 0 = some h → (R k).length = h := fun k h hh => by rw [hR]; exact s_run_len hh
      have hRb : ∀ k, ∀ a ∈ R k, s_Be a := fun k => by
        rw [hR]
        refine s_run_B (fun m hm h24 _ => ?_) (fun m hm h3 f => ?_) (fun m hm => hO.2.2.2.2.1 c hc m (List.mem_of_mem_take hm)) (fun a ha => by cases ha)
        · exact tEV_B hO h24
        · have b := hO.1.mo c hc m (List.mem_of_mem_take hm) h3
          unfold tTV
          cases hl : tly τ (m.1 % 10) with
          | none => intro h; exact absurd (show (4 : Int32) = 0 from h) (by decide)
          | some L =>
            obtain ⟨q1, q2, q3⟩ := hO.2.2.2.2.2.1 _ b L hl
            have q4 := hO.2.2.1.2.2 _ b L hl
            exact s_tv_B (fun k _ _ => s_EV_B hO.2.2.1 hO.1.mo hO.2.2.2.1 hO.2.2.2.2.1 hO.2.2.2.2.2.1 _ L.1 (Nat.lt_succ_self _) q4.1 _ (s_bi_B hO.2.2.2.2.2.2.1 q1 q2)) q3
      rw [if_neg e3]
      simp only [not_true_eq_false, true_implies, false_implies, implies_true, and_true, true_and, forall_eq]
      refine ⟨_, fun _ _ h => h, ?_⟩
      refine ⟨fun n x h nx' => ∃ k τ1, k ≤ s ∧ n = s - k ∧ x = nI k ∧ h = tput g m0 τ1 hp ∧ nx = nx' ∧ tfr dp tp τ τ1 ∧ τ1.1 26 = nI (tp + (R k).length) ∧ tSk τ1 tp (R k) ∧ tMem τ1 dp, ⟨_, 0, τ, by omega, rfl, rfl, rfl, rfl, tfr.rf, by rw [hR]; exact h26, by rw [hR]; exact trivial, hm⟩, ?_⟩
      rintro nn _ _ _ ⟨k, τ1, hk, hnn, rfl, rfl, rfl, f1, k26, ksk, km⟩
      have k3 : τ1.2.2.1 3 0 c = nI s := by rw [f1.I 3 (by decide)]; exact hs
      have k18 : τ1.1 18 = nI dp := by rw [f1.1 18 (by decide) (by decide) (by decide)]; exact h18
      simp only [tg_sizes, ta_sizes, tu_sizes, cc, ic, k3, true_implies, false_implies, implies_true, and_true, true_and, forall_eq]
      refine pk_le s k (fun hle => ?_) (fun hlt => ?_)
      · have hks : k = s := by omega
        have hRfull : R k = s_run (tEV τ) (tTV τ) c (tfm τ c) [] := by rw [hR, hks]; simp only; rw [List.take_of_length_le (by omega)]
        have hl1 : (R k).length = 1 := by rw [hRfull]; exact s_run_len hht
        match hRk : R k, hl1 with
        | [a], _ =>
          rw [hRk] at k26 ksk
          rw [← hRfull, hRk] at hev
          have ep : nI (tp + [a].length) - 1 = nI tp := nI_pred tp
          have ct : (nI tp).toNatClampNeg = tp := nI_clamp (by omega)
          have it : vp_in (nI tp) 4800 := vp_in_nI (by omega) (by decide)
          have en := ksk.1
          simp only [List.length_nil, Nat.add_zero] at en
          have hba := hRb k a (by rw [hRk]; simp)
          simp only [tg_top, tp_top, tg_values, ta_values, tg_deep, tp_deep, tg_heapErrors, ta_heapErrors, tu_heapErrors, k26, ep, hB, true_implies, false_implies, implies_true, and_true, true_and, forall_eq, k18, cd, id, ct, it, tq2, en.2.1, tq1, tq3, tq4, tq5, tq7, tq8, tq9, tqa, tqc, tqd, tqe, tqf, tqg, tqh, tqj, va_s, ne_eq, reduceCtorEq, not_false_eq_true, not_true_eq_false, if_true, if_false, Nat.reduceEqDiff]
          have f2 : tfr dp tp τ (tsI τ1 26 (nI tp)) := f1.sI (Or.inl rfl)
          have km2 : tMem (tsI τ1 26 (nI tp)) dp := km.fr (dq := dp + 1) (tp := tp) (tfr.rf.sI (Or.inl rfl)) (by omega)
          by_cases h0 : a.2.1 = 0
          · simp only [h0, not_true_eq_false, true_implies, false_implies, implies_true, and_true, true_and, forall_eq, tg_kinds, ta_kinds, tu_kinds, tg_heap, ta_heap, tu_heap, tg_top, tp_top, cc, ic, ct, it, en.1, tq1, tq3, tq4, tq5, tq7, tq8, tq9, tqa, tqc, tqd, tqe, tqf, tqg, tqh, tqj, va_s, ne_eq, reduceCtorEq, not_false_eq_true, not_true_eq_false, if_true, if_false, Nat.reduceEqDiff]
            refine ⟨_, fun _ _ _ _ _ _ h => h, ?_⟩
            refine t_kept (by omega) (hba h0) ?_
            simp only [tg_errors, ta_errors, tg_blames, ta_blames, tg_heapErrors, ta_heapErrors, tu_heapErrors, tg_heapBlames, ta_heapBlames, tu_heapBlames, tg_told, ta_told, tg_top, tp_top, tg_deep, tp_deep, tb_values ld, tv_values ld, tb_errors ld, tv_errors ld, tb_blames ld, tv_blames ld, tb_told ld, tv_told ld, true_implies, false_implies, implies_true, and_true, true_and, forall_eq, k18, cd, id, ct, it, cc, ic, hB3, n1, tq2, en.2.1, en.2.2, h0, tq1, tq3, tq4, tq5, tq7, tq8, tq9, tqa, tqc, tqd, tqe, tqf, tqg, tqh, tqj, va_s, ne_eq, reduceCtorEq, not_false_eq_true, not_true_eq_false, if_true, if_false, Nat.reduceEqDiff]
            have hev2 : tEV τ c = (s_kp (tkd τ c) a.1, 0, a.2.2) := by
              rw [hev]
              unfold s_fn
              simp only [h0, if_true]
              rw [← h0]
            have := fin _ f2 tq1 km2 _ _ _ hev2
            have ek : τ1.2.2.1 0 0 c = tkd τ c := by rw [f1.I 0 (by decide)]; rfl
            rw [ek]
            simp only [tq1, tq3, tq4, tq5, tq7, tq8, tq9, tqa, tqc, tqd, tqe, tqf, tqg, tqh, tqj, va_s, ne_eq, reduceCtorEq, not_false_eq_true, not_true_eq_false, if_true, if_false, Nat.reduceEqDiff] at this
            exact this
          · simp only [h0, not_false_eq_true, true_implies, false_implies, implies_true, and_true, true_and, forall_eq]
            refine ⟨_, fun _ _ _ _ _ _ h => h, ?_⟩
            simp only [tg_errors, ta_errors, tg_blames, ta_blames, tg_heapErrors, ta_heapErrors, tu_heapErrors, tg_heapBlames, ta_heapBlames, tu_heapBlames, tg_told, ta_told, tg_top, tp_top, tg_deep, tp_deep, tb_values ld, tv_values ld, tb_errors ld, tv_errors ld, tb_blames ld, tv_blames ld, tb_told ld, tv_told ld, true_implies, false_implies, implies_true, and_true, true_and, forall_eq, k18, cd, id, ct, it, cc, ic, hB3, n1, tq2, en.2.1, en.2.2, tq1, tq3, tq4, tq5, tq7, tq8, tq9, tqa, tqc, tqd, tqe, tqf, tqg, tqh, tqj, va_s, ne_eq, reduceCtorEq, not_false_eq_true, not_true_eq_false, if_true, if_false, Nat.reduceEqDiff]
            have hev2 : tEV τ c = (0, a.2.1, a.2.2) := by
              rw [hev]
              unfold s_fn
              simp only [h0, if_false]
            have := fin _ f2 tq1 km2 _ _ _ hev2
            simp only [tq1, tq3, tq4, tq5, tq7, tq8, tq9, tqa, tqc, tqd, tqe, tqf, tqg, tqh, tqj, va_s, ne_eq, reduceCtorEq, not_false_eq_true, not_true_eq_false, if_true, if_false, Nat.reduceEqDiff] at this
            exact this
      · obtain ⟨h, j, q1, q2⟩ := hht' k hlt
        have hl := hRl k h q1
        have hle96 : h ≤ k := by have := s_ht_le q1; rw [List.length_take] at this; omega
        obtain ⟨m, htok, hmk⟩ := hmarks k hlt
        have e1 := tmk_1 htok hmk
        have ck : (nI k).toNatClampNeg = k := nI_clamp (by omega)
        have ik : vp_in (nI k) 96 := vp_in_nI (by omega) (by decide)
        have hmk1 : τ1.2.2.1 4 c k = nI m := by rw [f1.I 4 (by decide)]; exact hmk
        have etm : tmk τ1 c k = tmk τ c k := by unfold tmk; rw [f1.I 4 (by decide), f1.D 5 (by decide)]
        simp only [tg_marks, ta_marks, cc, ic, tb_marks hc, tv_marks hc, ck, ik, hmk1, true_implies, false_implies, implies_true, and_true, true_and, forall_eq, tw_zo]
        rw [e1, ← hl] at q2
        refine t_act (kk := k) (dp := dp) (tp := tp) (st := R k) ih hB (hO.pe f1.pe) hc (by omega) hmk1 htok ?_ (by omega) hdp k18 k26 (by omega) htp km ksk (hRb k) q2 fun τ3 f3 w26 wsk wm => ?_
        · rw [etm, f1.pe.fm, tfm_mem hs hs96]
          exact ⟨k, hlt, rfl⟩
        · rw [f1.pe.EV, f1.pe.TV, etm, ← hRs k hlt] at w26 wsk
          exact ⟨_, by omega, k + 1, τ3, by omega, rfl, nI_1 k, rfl, rfl, f1.tr f3, w26, wsk, wm⟩
end T7
