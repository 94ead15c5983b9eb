set_option maxRecDepth 100000
/-! all that names is gone through; orders -/
section GO
variable {l : Launch} {g : zG} {d x0 : Nat} {P : cP} {σ σ' τ τ' : cS} {hp hp' : zHp} {nx : Nat} {fm : sF} {ly : sY} {kd : Nat → Int32} {rk : Nat → Nat} {X : cX}
/-- what orders leaves alone -/
def cFo (σ σ' : cS) : Prop := σ'.1 = σ.1 ∧ σ'.2.1 = σ.2.1 ∧ σ'.2.2.1 = σ.2.2.1 ∧ σ'.2.2.2.1 = σ.2.2.2.1 ∧ (∀ k, k ≠ 13 → k ≠ 14 → k ≠ 15 → k ≠ 17 → σ'.2.2.2.2.1 k = σ.2.2.2.2.1 k) ∧ σ'.2.2.2.2.2.1 = σ.2.2.2.2.2.1 ∧ σ'.2.2.2.2.2.2.1 = σ.2.2.2.2.2.2.1 ∧ σ'.2.2.2.2.2.2.2.2.2 = σ.2.2.2.2.2.2.2.2.2
theorem cFo.rf : cFo σ σ := ⟨rfl, rfl, rfl, rfl, fun _ _ _ _ _ => rfl, rfl, rfl, rfl⟩
theorem cFo.tr {σ1 σ2 : cS} (h1 : cFo σ σ1) (h2 : cFo σ1 σ2) : cFo σ σ2 := ⟨h2.1.trans h1.1, h2.2.1.trans h1.2.1, h2.2.2.1.trans h1.2.2.1, h2.2.2.2.1.trans h1.2.2.2.1, fun k a b c e => (h2.2.2.2.2.1 k a b c e).trans (h1.2.2.2.2.1 k a b c e), h2.2.2.2.2.2.1.trans h1.2.2.2.2.2.1, h2.2.2.2.2.2.2.1.trans h1.2.2.2.2.2.2.1, h2.2.2.2.2.2.2.2.trans h1.2.2.2.2.2.2.2⟩
theorem cFo.q (h : cFo σ τ) {Q : (Nat → Option Nat) × Int32 × Int32} : cFo σ (cuQ τ Q) := h
theorem cFo.w (h : cFo σ τ) {f : Nat → Int32} : cFo σ (cuA τ 17 f) := ⟨h.1, h.2.1, h.2.2.1, h.2.2.2.1, fun k a b c e => (kA_o e).trans (h.2.2.2.2.1 k a b c e), h.2.2.2.2.2.1, h.2.2.2.2.2.2.1, h.2.2.2.2.2.2.2⟩
theorem cFo.fw (h : cFo σ τ) (h2 : cFw τ τ') : cFo σ τ' := ⟨h2.1.trans h.1, h2.2.1.trans h.2.1, h2.2.2.1.trans h.2.2.1, h2.2.2.2.1.trans h.2.2.2.1, fun k a b c e => (h2.2.2.2.2.1 k a b c).trans (h.2.2.2.2.1 k a b c e), h2.2.2.2.2.2.1.trans h.2.2.2.2.2.1, h2.2.2.2.2.2.2.1.trans h.2.2.2.2.2.2.1, by rw [h2.2.2.2.2.2.2.2]; exact h.2.2.2.2.2.2.2⟩
theorem cS0.fo (h : cS0 g x0 P hp σ.2.2.2.2 fm ly kd) (hf : cFo σ τ) : cS0 g x0 P hp τ.2.2.2.2 fm ly kd := by
  refine ⟨fun c hc => ?_, h.2.1, fun c hc => ?_, fun t ht => ?_⟩
  · rw [hf.2.2.2.2.2.2.1]; exact h.1 c hc
  · rw [hf.2.2.2.2.2.2.2]; exact h.2.2.1 c hc
  · rw [hf.2.2.2.2.2.2.1]; exact h.2.2.2 t ht
theorem cWg.w {n : Nat} {f : Nat → Int32} (h : cWg σ.2.2.2.2 fm ly n) : cWg (cuA σ 17 f).2.2.2.2 fm ly n := by
  refine ⟨fun q => ?_, fun q => ?_⟩
  · obtain ⟨a1, a2, a3, a4⟩ := h.1 q
    exact ⟨a1, by rw [show (cuA σ 17 f).2.2.2.2.1 14 = σ.2.2.2.2.1 14 from kA_o (by decide)]; exact a2, by rw [show (cuA σ 17 f).2.2.2.2.1 13 = σ.2.2.2.2.1 13 from kA_o (by decide)]; exact a3, a4⟩
  · obtain ⟨a1, a2⟩ := h.2 q
    refine ⟨?_, a2⟩
    unfold cKt at a1 ⊢
    rw [show (cuA σ 17 f).2.2.2.2.1 15 = σ.2.2.2.2.1 15 from kA_o (by decide)]; exact a1
theorem cWg.q {n : Nat} {Q : (Nat → Option Nat) × Int32 × Int32} (h : cWg σ.2.2.2.2 fm ly n) : cWg (cuQ σ Q).2.2.2.2 fm ly n := h
theorem kW_le {NM : Nat → Nat → Prop} {ds : List Nat} {n : Nat} : kW NM ds n ≤ 30 := s_cn_le _ _
theorem c_goes {b : Int32} (hbz : b = 0 ∨ (b ≠ 0 ∧ ∃ rk, s_rk fm ly rk ∧ ∀ x, x < 30 → rk x < 30)) (hW : cW g x0 P hp) (hI : cIc g hp) (hS : cS0 g x0 P hp σ.2.2.2.2 fm ly kd) (hM : sMr fm) (hk : cBk σ.2.2.2.2) (hQ : cDw σ.2.2.2.2.2.2.2.2.1) (hd : 12 ≤ d) {K : zHp → Nat → Prop} {KX : Nat → zHp → Nat → Prop}
    (hK : ∀ σ' hp' nx', cFo σ σ' → cBk σ'.2.2.2.2 → cDw σ'.2.2.2.2.2.2.2.2.1 → (b ≠ 0 → ∀ q, q < 30 → cWg σ'.2.2.2.2 fm ly q) → kRk (sNm fm ly) → cW g x0 P hp' → hLe hp hp' → nx ≤ nx' → K (cput g x0 P σ' hp') nx')
    (hX : ∀ q fs (code : Int32) σ' hp' nx', ((code = -5 ∧ ¬ kRk (sNm fm ly)) ∨ (code = -4 ∧ b ≠ 0 ∧ s_tm fm ly)) → cFo σ σ' → cBk σ'.2.2.2.2 → cDw σ'.2.2.2.2.2.2.2.2.1 → cW g x0 P hp' → hLe hp hp' → nx ≤ nx' → hp' q = some (.inr (4, fs)) → fs[6]? = some (.int code) → KX q (cput g x0 P σ' hp') nx') : zMx l g yX0_goesThrough cX0_goesThrough 5 none d 61 367 [.ref x0, .int b] (cput g x0 P σ hp) nx (zQv g K) "WhatIfSheet$Refused" KX := by
  obtain ⟨d, rfl⟩ := Nat.exists_eq_add_of_le' (show 1 ≤ d by omega)
  have zA : ∀ q, zB g ≤ x0 + q := fun q => by have := hW.1; omega
  obtain ⟨NM, eNM⟩ : ∃ NM, NM = sNm fm ly := ⟨_, rfl⟩
  apply met_X0_goesThrough
  unfold wp_X0_goesThrough
  rw [cg_ready]
  refine ⟨by decide, by decide, ?_⟩
  rw [hz_o cput_q (by decide)]
  refine c_qclear hW hQ (by omega) (fun f => ?_)
  refine ⟨fun n x hp1 nx1 kc ks => ∃ k qs w τ, n + k = 30 ∧ x = nI k ∧ hp1 = cput g x0 P τ hp ∧ nx = nx1 ∧ kc = 0 ∧ ks = 0 ∧ cFo σ τ ∧ cBk τ.2.2.2.2 ∧ cDq hp τ.2.2.2.2.2.2.2.2.1 0 qs ∧ (∀ n, n < k → τ.2.2.2.2.1 17 n = nI (w n)) ∧ kS NM k qs w, ⟨30, 0, [], fun _ => 0, cuQ σ (f, 0, 0), rfl, rfl, rfl, rfl, rfl, rfl, cFo.rf.q, hk, ⟨rfl, rfl, by decide, fun i n h => by simp at h⟩, fun n h => absurd h (Nat.not_lt_zero _), kS_0⟩, ?_⟩
  rintro n x hp1 nx1 kc ks ⟨k, qs, w, τ, hk30, rfl, rfl, rfl, rfl, rfl, t1, t2, t3, t4, t5⟩
  refine pk_le 30 k (fun z => ?_) (fun z => ?_)
  · have : k = 30 := by omega
    subst this
    clear z hk30 n
    refine ⟨fun n x hp1 nx1 kc ks => ∃ ds qs w τ hpx, n + ds.length = 30 ∧ x = nI ds.length ∧ hp1 = cput g x0 P τ hpx ∧ nx ≤ nx1 ∧ kc ≤ 2 * ds.length ∧ ks ≤ 12 * ds.length ∧ cFo σ τ ∧ cBk τ.2.2.2.2 ∧ cW g x0 P hpx ∧ hLe hp hpx ∧ cDq hpx τ.2.2.2.2.2.2.2.2.1 ds.length qs ∧ (∀ n, n < 30 → τ.2.2.2.2.1 17 n = nI (w n)) ∧ kI NM ds qs w ∧ kR NM ds ∧ (b ≠ 0 → ∀ q ∈ ds, cWg τ.2.2.2.2 fm ly q), ⟨30, [], qs, w, τ, hp, rfl, rfl, rfl, Nat.le_refl _, Nat.le_refl _, Nat.le_refl _, t1, t2, hW, hLe.rf, t3, t4, kS_30 t5, ⟨fun _ => 0, fun n h => (by cases h)⟩, fun _ q h => (by cases h)⟩, ?_⟩
    clear t1 t2 t3 t4 t5
    rintro n x hp1 nx1 kc ks ⟨ds, qs, w, τ, hpx, hn, rfl, rfl, hnx, hkc, hks, t1, t2, hWx, hlex, t3, t4, t5, t6, t7⟩
    rw [cg_ready]
    refine ⟨by omega, by omega, ?_⟩
    rw [hz_o cput_q (by decide)]
    refine c_qempty t3 (by omega) (fun eq => ?_) (fun neq => ?_)
    · -- nothing is ready
      subst eq
      refine ⟨fun z => absurd z (by decide), fun _ => ?_⟩
      refine pk_le 30 ds.length (fun z => ?_) (fun z => ?_)
      · have hall := k_all t5 (by omega)
        exact ⟨by omega, by omega, hK τ hpx nx1 t1 t2 t3.w (fun hb q hq => t7 hb q (hall q hq)) (by rw [← eNM]; exact k_yes t5 t6 (by omega)) hWx hlex hnx⟩
      · refine ⟨by omega, by rw [zNn_4]; omega, fun hf hz => ?_⟩
        rintro nx7 kc8 ks9 rfl rfl rfl
        obtain ⟨fr1, fr2⟩ := c_fresh hWx hf
        refine ⟨0, 0, by omega, by rw [zNn_4]; omega, ?_⟩
        refine x_refused va_s zNf_4 hz (by omega) (fun fs' hl' h6' => ?_)
        rw [cva_uu, cput_hq fr1]
        have hW' := cW_hq (v := some (.inr (4, fs'))) fr1 hWx
        rw [ch_o hW' (a := nx1) (ci := 4) (fs := fs') va_s (by decide)]
        exact ⟨by omega, by rw [zNn_4]; omega, hX nx1 fs' (-5) τ _ (nx1 + 1) (Or.inl ⟨rfl, by rw [← eNM]; exact k_no t5 z⟩) t1 t2 t3.w hW' (hlex.tr (hLe.up fr2)) (by omega) va_s h6'⟩
    · refine ⟨fun _ => ?_, fun z => absurd rfl z⟩
      cases qs with
      | nil => exact absurd rfl neq
      | cons m qs =>
        obtain ⟨m30, hmd, hm0⟩ := kI_mw t5
        have hlen := t5.1.len
        rw [List.length_cons] at hlen
        rw [cg_ready]
        refine ⟨by omega, by omega, ?_⟩
        rw [hz_o cput_q (by decide)]
        refine c_qpoll hWx t3 (by omega) (fun bb Q hbb hQ' => ?_)
        refine ⟨fun q e => (by cases e; exact ⟨41, _, cput_h hWx hbb, by decide⟩), by omega, by omega, ?_⟩
        rw [ch_o hWx hbb (by decide)]
        refine j_int (cput_h hWx hbb) (by omega) ?_
        rintro x50 rfl
        rw [nI_1]
        refine ⟨fun x y hp1 nx1 kc ks => ∃ τ2 hpy, x = nI (ds.length + 1) ∧ y = nI m ∧ hp1 = cput g x0 P τ2 hpy ∧ nx ≤ nx1 ∧ kc ≤ 2 * (ds.length + 1) ∧ ks ≤ 12 * (ds.length + 1) ∧ cFo σ τ2 ∧ cBk τ2.2.2.2.2 ∧ cW g x0 P hpy ∧ hLe hp hpy ∧ cDq hpy τ2.2.2.2.2.2.2.2.2.1 (ds.length + 1) qs ∧ (∀ n, n < 30 → τ2.2.2.2.2.1 17 n = nI (w n)) ∧ (b ≠ 0 → ∀ q ∈ ds ++ [m], cWg τ2.2.2.2.2 fm ly q), ?_, fun hb => ?_, fun hb => ?_⟩
        · clear t1 t2 t3 t4 t7 hWx hlex hnx hkc hks hQ' hbb
          rintro x y hp1 nx1 kc ks ⟨τ2, hpy, rfl, rfl, rfl, hnx, hkc, hks, t1, t2, hWy, hley, t3, t4, t7⟩
          refine ⟨fun n x y z hp1 nx1 kc ks => ∃ k qs w τ3, n + k = 30 ∧ x = nI (ds.length + 1) ∧ y = nI m ∧ z = nI k ∧ hp1 = cput g x0 P τ3 hpy ∧ nx ≤ nx1 ∧ kc ≤ 2 * (ds.length + 1) ∧ ks ≤ 12 * (ds.length + 1) ∧ cFo σ τ3 ∧ cBk τ3.2.2.2.2 ∧ cDq hpy τ3.2.2.2.2.2.2.2.2.1 (ds.length + 1) qs ∧ (∀ n, n < 30 → τ3.2.2.2.2.1 17 n = nI (w n)) ∧ kJ NM ds m qs k w ∧ (b ≠ 0 → ∀ q ∈ ds ++ [m], cWg τ3.2.2.2.2 fm ly q), ⟨30, 0, qs, w, τ2, rfl, rfl, rfl, rfl, rfl, hnx, hkc, hks, t1, t2, t3, t4, kJ_0 t5, t7⟩, ?_⟩
          clear t1 t2 t3 t4 t7 hnx hkc hks
          rintro n2 x y z hp1 nx1 kc ks ⟨k, qs2, w2, τ3, hn2, rfl, rfl, rfl, rfl, hnx, hkc, hks, t1, t2, t3, t4, tJ, t7⟩
          refine pk_le 30 k (fun zk => ?_) (fun zk => ?_)
          · have : k = 30 := by omega
            subst this
            refine ⟨n - 1, by omega, ds ++ [m], qs2, w2, τ3, hpy, by rw [List.length_append, List.length_singleton]; omega, by rw [List.length_append, List.length_singleton], rfl, hnx, by rw [List.length_append, List.length_singleton]; omega, by rw [List.length_append, List.length_singleton]; omega, t1, t2, hWy, hley, by rw [List.length_append, List.length_singleton]; exact t3, t4, kJ_30 tJ, kR_add t6 hmd hm0, t7⟩
          · refine ⟨0, 0, by omega, by omega, ?_⟩
            rw [cz_o]
            have ck : (nI k).toNatClampNeg = k := nI_clamp (by omega)
            have ik : vp_in (nI k) 30 := vp_in_nI zk (by decide)
            have nxt : ∀ (qs3 : List Nat) (w3 : Nat → Nat) (τ4 : cS) (kc' ks' : Nat), kc' ≤ kc → ks' ≤ ks → cFo σ τ4 → cBk τ4.2.2.2.2 → cDq hpy τ4.2.2.2.2.2.2.2.2.1 (ds.length + 1) qs3 → (∀ n, n < 30 → τ4.2.2.2.2.1 17 n = nI (w3 n)) → kJ NM ds m qs3 (k + 1) w3 → (b ≠ 0 → ∀ q ∈ ds ++ [m], cWg τ4.2.2.2.2 fm ly q) → ∀ x78 : Int32, x78 = nI k + 1 → ∃ k_79, k_79 < n2 ∧ ∃ k' qs w τ3, k_79 + k' = 30 ∧ nI (ds.length + 1) = nI (ds.length + 1) ∧ nI m = nI m ∧ x78 = nI k' ∧ cput g x0 P τ4 hpy = cput g x0 P τ3 hpy ∧ nx ≤ nx1 ∧ kc' ≤ 2 * (ds.length + 1) ∧ ks' ≤ 12 * (ds.length + 1) ∧ cFo σ τ3 ∧ cBk τ3.2.2.2.2 ∧ cDq hpy τ3.2.2.2.2.2.2.2.2.1 (ds.length + 1) qs ∧ (∀ n, n < 30 → τ3.2.2.2.2.1 17 n = nI (w n)) ∧ kJ NM ds m qs k' w ∧ (b ≠ 0 → ∀ q ∈ ds ++ [m], cWg τ3.2.2.2.2 fm ly q) := by
              rintro qs3 w3 τ4 kc' ks' h1 h2 h3 h4 h5 h6 h7 h8 x78 rfl
              exact ⟨n2 - 1, by omega, k + 1, qs3, w3, τ4, by omega, rfl, rfl, (nI_succ k).symm, rfl, hnx, by omega, by omega, h3, h4, h5, h6, h7, h8⟩
            refine c_names hWy (hI.mo hley) ((hS.mo hley).fo t1) hM zk m30 (by omega) (fun y => ?_) (fun y => ?_)
            · rw [← eNM] at y
              obtain ⟨v, ev, hv0, hv1⟩ := kJ_y tJ zk y hmd m30
              have hv30 : v + 1 ≤ 30 := by
                rw [← ev, tJ.2 k zk]
                split <;> exact kW_le
              refine ⟨_, fun _ _ _ _ _ _ _ h => h, ?_⟩
              refine ⟨fun w => absurd w (by decide), fun _ => ?_⟩
              rw [cg_waits, ca_waits]
              refine ⟨ik, ?_⟩
              intro x87 e87
              rw [ck, t4 k zk, ev] at e87
              subst e87
              rw [ca_waits]
              refine ⟨ik, zA _, ?_⟩
              intro hp91 e91
              rw [ck, cu_waits, nI_pred] at e91
              subst e91
              rw [nI_pred]
              have h17 : ∀ n, n < 30 → (cuA τ3 17 (va_up (τ3.2.2.2.2.1 17) k (nI v))).2.2.2.2.1 17 n = nI (va_up w2 k v n) := by
                intro n' hn'
                rw [kA_s]
                by_cases e : n' = k
                · subst e; rw [va_s, va_s]
                · rw [va_o e, va_o e]; exact t4 n' hn'
              refine pk_eq v 0 (fun v0 => ?_) (fun v0 => ?_)
              · subst v0
                have tJ' := hv0 rfl
                have hl2 := tJ'.1.len
                rw [List.length_append, List.length_append, List.length_singleton, List.length_singleton] at hl2
                rw [cg_ready]
                refine ⟨0, 0, by omega, by omega, ?_⟩
                refine c_val zk hWy (hI.mo hley) (by omega) (fun b2 hb2 => ?_)
                refine ⟨0, 0, by omega, by omega, ?_⟩
                rw [hz_o cput_q (by decide)]
                refine c_qadd (σ := cuA τ3 17 (va_up (τ3.2.2.2.2.1 17) k (nI 0))) hWy t3 (by omega) hb2 (by omega) (fun Q hQ2 => ?_)
                exact nxt _ _ (cuQ (cuA τ3 17 (va_up (τ3.2.2.2.2.1 17) k (nI 0))) Q) _ _ (by omega) (by omega) t1.w.q t2 hQ2 h17 tJ' (fun hb q hq => (t7 hb q hq).w.q)
              · exact nxt _ _ (cuA τ3 17 (va_up (τ3.2.2.2.2.1 17) k (nI v))) _ _ (by omega) (by omega) t1.w t2 t3 h17 (hv1 v0) (fun hb q hq => (t7 hb q hq).w)
            · rw [← eNM] at y
              refine ⟨_, fun _ _ _ _ _ _ _ h => h, ?_⟩
              refine ⟨fun _ => ?_, fun w => absurd rfl w⟩
              exact nxt _ _ τ3 _ _ (by omega) (by omega) t1 t2 t3 t4 (kJ_n tJ y) t7
        · exact ⟨cuQ τ Q, hpx, rfl, rfl, rfl, hnx, by omega, by omega, t1.q, t2, hWx, hlex, hQ', t4, fun h => absurd hb h⟩
        · obtain ⟨rk, hr, hb30⟩ : ∃ rk, s_rk fm ly rk ∧ ∀ x, x < 30 → rk x < 30 := by
            rcases hbz with h | h
            · exact absurd h hb
            · exact h.2
          refine ⟨2, 12, by omega, by omega, ?_⟩
          rw [cz_o]
          obtain ⟨rr, hrr⟩ := t6
          refine c_weighs (σ := cuQ τ Q) (rk := rk) hWx ((hS.mo hlex).fo t1) hM hr hb30 t2 m30 hmd (fun q hq => ⟨t5.1.2.1 q (by simp [hq]), t7 hb q hq⟩) (fun n' hn' q hq hx => ((hrr n' hn').2 q hq (by rw [eNM]; exact hx)).1) (fun q hq hx => ?_) (by omega) (fun σ' hp' nx' u1 u2 u3 u4 u5 u6 => ?_) (fun q fs σ' hp' nx' u1 u2 u3 u4 u5 u6 u7 u8 => ?_)
          · by_cases z : q ∈ ds
            · exact z
            · exact absurd ⟨by rw [eNM]; exact hx, z⟩ (cn_0 hm0 hq)
          · refine ⟨σ', hp', rfl, rfl, rfl, by omega, by omega, by omega, (t1.q (Q := Q)).fw u1, u2, u4, hlex.tr u5, ?_, fun n' hn' => ?_, fun _ => u3⟩
            · rw [u1.2.2.2.2.2.2.2]; exact hQ'.mo u5
            · rw [u1.2.2.2.2.1 17 (by decide) (by decide) (by decide)]; exact t4 n' hn'
          · refine ⟨by omega, by omega, hX q fs (-4) σ' hp' nx' (Or.inr ⟨rfl, hb, u1⟩) ((t1.q (Q := Q)).fw u2) u3 ?_ u4 (hlex.tr u5) (by omega) u7 u8⟩
            rw [u2.2.2.2.2.2.2.2]; exact hQ'.w
  · refine ⟨0, 0, by decide, by decide, ?_⟩
    rw [cz_o]
    have hql : qs.length < 30 := by have := nd_le t5.1 t5.2.1; omega
    have hwn : ∀ v, ∀ n', n' < k + 1 → (cuA τ 17 (va_up (τ.2.2.2.2.1 17) k (nI v))).2.2.2.2.1 17 n' = nI (va_up w k v n') := by
      intro v n' hn'
      rw [kA_s]
      by_cases e : n' = k
      · subst e; rw [va_s, va_s]
      · rw [va_o e, va_o e]; exact t4 n' (by omega)
    have hks := kS_s t5 (v := kW (sNm fm ly) [] k) (by rw [eNM])
    refine c_stands (h := 0) (qs := qs) hW hI (hS.fo t1) hM z t3 (by omega) (by omega) (fun h0 Q hQ2 => ?_) (fun h1 => ?_)
    · rintro x136 rfl
      rw [h0] at hks
      exact ⟨n - 1, by omega, k + 1, qs ++ [k], va_up w k 0, _, by omega, (nI_succ k).symm, rfl, rfl, rfl, rfl, t1.w.q, t2, hQ2, hwn 0, hks.1 rfl⟩
    · rintro x136 rfl
      exact ⟨n - 1, by omega, k + 1, qs, _, _, by omega, (nI_succ k).symm, rfl, rfl, rfl, rfl, t1.w, t2, t3, hwn _, hks.2 h1⟩
/-- orders: the sheet stands (1), a ring (-5), too much (-4) -/
theorem c_orders (hW : cW g x0 P hp) (hI : cIc g hp) (hS : cS0 g x0 P hp σ.2.2.2.2 fm ly kd) (hM : sMr fm) (hk : cBk σ.2.2.2.2) (hQ : cDw σ.2.2.2.2.2.2.2.2.1) (hd : 13 ≤ d) {K : Int32 → zHp → Nat → Prop}
    (hK : ∀ x σ' hp' nx', cFo σ σ' → cBk σ'.2.2.2.2 → cDw σ'.2.2.2.2.2.2.2.2.1 → cW g x0 P hp' → hLe hp hp' → nx ≤ nx' → ((x = 1 ∧ (∃ rk, s_rk fm ly rk) ∧ ∀ q, q < 30 → cWg σ'.2.2.2.2 fm ly q) ∨ (x = -5 ∧ ¬ ∃ rk, s_rk fm ly rk) ∨ (x = -4 ∧ (∃ rk, s_rk fm ly rk) ∧ s_tm fm ly)) → K x (cput g x0 P σ' hp') nx') : zMtW l g yX0_orders cX0_orders 2 (some .int) [(0, 11, 12, 333)] d 122 734 [.ref x0] (cput g x0 P σ hp) nx (zQi g K) := by
  obtain ⟨d, rfl⟩ := Nat.exists_eq_add_of_le' (show 1 ≤ d by omega)
  have hT : ∀ t, t < 6 → ∀ L, ly t = some L → L.1 < 24 := fun t ht L hl => by
    rcases hS.2.2.2 t ht with ⟨y3, -⟩ | ⟨a', L', y3, -, -, y6⟩
    · rw [hl] at y3; cases y3
    · rw [hl] at y3; cases y3; exact y6.1
  have hrk := k_rk hM.1 hT
  apply met_X0_orders
  unfold wp_X0_orders
  refine ⟨fun r hp1 nx1 kc ks => ∃ (q : Nat) (fs : List Value) (code : Int32) (σ' : cS) (hp' : zHp), some q = r ∧ hp1 = cput g x0 P σ' hp' ∧ nx ≤ nx1 ∧ kc ≤ 122 ∧ ks ≤ 734 ∧ cFo σ σ' ∧ cBk σ'.2.2.2.2 ∧ cDw σ'.2.2.2.2.2.2.2.2.1 ∧ cW g x0 P hp' ∧ hLe hp hp' ∧ ((code = -5 ∧ ¬ ∃ rk, s_rk fm ly rk) ∨ (code = -4 ∧ (∃ rk, s_rk fm ly rk) ∧ s_tm fm ly)) ∧ hp' q = some (.inr (4, fs)) ∧ fs[6]? = some (.int code), ?_, ?_⟩
  · rintro r hp1 nx1 kc ks ⟨q, fs, code, σ', hp', rfl, rfl, h1, h2, h3, h4, h5, h6, h7, h8, h9, h10, h11⟩
    rw [ch_I h7 h10 h11 (S := [4]) (by decide)]
    exact ⟨h2, h3, hK code σ' hp' nx1 h4 h5 h6 h7 h8 h1 (Or.inr h9)⟩
  · refine ⟨61, 367, by decide, by decide, ?_⟩
    rw [cz_o]
    refine c_goes (b := 0) (Or.inl rfl) hW hI hS hM hk hQ (by omega) (fun σ1 hp1 nx1 a1 a2 a3 _ a5 a6 a7 a8 => ?_) (fun q fs code σ' hp' nx' h1 h2 h3 h4 h5 h6 h7 h8 h9 => ?_)
    · have hex := hrk.mp a5
      have hex2 := hex
      obtain ⟨rk0, hr0⟩ := hex2
      obtain ⟨rk, hr, hb⟩ := s_rk_small hr0 hM.1
      refine ⟨61, 367, by decide, by decide, ?_⟩
      rw [cz_o]
      refine c_goes (b := 1) (Or.inr ⟨by decide, rk, hr, hb⟩) a6 (hI.mo a7) ((hS.mo a7).fo a1) hM a2 a3 (by omega) (fun σ2 hp2 nx2 b1 b2 b3 b4 b5 b6 b7 b8 => ?_) (fun q fs code σ' hp' nx' h1 h2 h3 h4 h5 h6 h7 h8 h9 => ?_)
      · exact ⟨by decide, by decide, hK 1 σ2 hp2 nx2 (a1.tr b1) b2 b3 b6 (a7.tr b7) (by omega) (Or.inl ⟨rfl, hex, b4 (by decide)⟩)⟩
      · rw [ch_o h5 h8 (by decide)]
        refine ⟨q, fs, code, σ', hp', rfl, rfl, by omega, by decide, by decide, a1.tr h2, h3, h4, h5, a7.tr h6, ?_, h8, h9⟩
        rcases h1 with ⟨e1, e2⟩ | ⟨e1, -, e2⟩
        · exact absurd a5 e2
        · exact Or.inr ⟨e1, hex, e2⟩
    · rw [ch_o h5 h8 (by decide)]
      refine ⟨q, fs, code, σ', hp', rfl, rfl, h7, by decide, by decide, h2, h3, h4, h5, h6, ?_, h8, h9⟩
      rcases h1 with ⟨e1, e2⟩ | ⟨-, e2, -⟩
      · exact Or.inl ⟨e1, fun z => e2 (hrk.mpr z)⟩
      · exact absurd rfl e2
end GO
