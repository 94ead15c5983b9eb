set_option maxRecDepth 100000
/-! runs -/
section RU
variable {l : Launch} {g : zG} {d x0 : Nat} {P : cP} {σ σ' σ0 σ1 σ2 τ : cS} {hp : zHp} {nx : Nat} {fm : sF} {ly : sY} {kd : Nat → Int32} {rk : Nat → Nat} {X : cX} {t D : Nat}
theorem cSW_0 {s : Nat} {F : Nat → Prop} (h : ∀ k, k < 24 * cWd s → ¬ F k) : cSW fm ly kd s F = 0 := by
  unfold cSW
  exact (s_sm_congr (h := fun _ => 0) (fun k hk => s_if_n (h k hk))).trans (s_sm_zero _)
theorem cIv.S {a M : Nat} {L : sL} {ow : sO} {S S' : Nat → Prop} (h : cIv fm ly kd rk X t a L ow σ0 M S σ) (e : ∀ y, S' y ↔ S y) : cIv fm ly kd rk X t a L ow σ0 M S' σ := by
  rw [show S' = S from funext (fun y => propext (e y))]
  exact h
theorem kN1 {r : Option Nat} : (cuN σ r).1 = σ.1 := rfl
theorem kN2 {r : Option Nat} : (cuN σ r).2.1 = r := rfl
theorem kN3 {r : Option Nat} : (cuN σ r).2.2 = σ.2.2 := rfl
theorem c_runs (hW : cW g x0 P hp) (hS : cSH g x0 P hp X fm ly kd) (hST : sST fm ly rk) (ht : t < 6) (hT : ∀ L, ly t = some L → cTl l g x0 P hp nx X fm ly kd rk D L.1) : cRn l g x0 P hp nx X fm ly kd rk (D + 12) t := by
  intro d M a L one ow σ K hd hXa hl hOW hX hSt hM hone hK
  obtain ⟨d, rfl⟩ := Nat.exists_eq_add_of_le' (show 1 ≤ d by omega)
  obtain ⟨hTb, hTk⟩ : cTb g hp a t L ∧ cTk L := by
    rcases hS.2.2.2.1 t ht with ⟨-, q⟩ | ⟨a', L', q1, q2, q3, q4⟩
    · rw [hXa] at q; cases q
    · rw [hXa] at q2; rw [hl] at q1; cases q2; cases q1; exact ⟨q3, q4⟩
  have hs7 : t < 7 := by omega
  have hBL := hST.2.2.2.2.1 t ht L hl
  have hmy := hTk.my
  have hnc := hTk.nc
  have hTb' := hTb
  obtain ⟨a1, r2, t1, t2, t3⟩ := hTb
  obtain ⟨b1, t4⟩ : ∃ b1, hp a1 = some (.inr (32, [.int (nI L.2.1), .ref b1])) := by obtain ⟨b1, f1, q1, -, -⟩ := t2; exact ⟨b1, q1⟩
  have hTk' := hTk
  obtain ⟨k1, k2, k3, k4, k5⟩ := hTk
  have m1 : ∀ {τ : cS} {Q : Option Nat → Prop}, zgR (cput g x0 P τ hp) (some a) [31] 2 Q = Q (some a1) := fun {τ Q} => ch_R hW t1 (k := 2) (r := some a1) rfl (by decide)
  have m2 : ∀ {τ : cS} {Q : Option Nat → Prop}, zgR (cput g x0 P τ hp) (some a) [31] 3 Q = Q r2 := fun {τ Q} => ch_R hW t1 (k := 3) (r := r2) rfl (by decide)
  have m3 : ∀ {τ : cS} {Q : Int32 → Prop}, zgI (cput g x0 P τ hp) (some a1) [32] 0 Q = Q (nI L.2.1) := fun {τ Q} => ch_I hW t4 (k := 0) rfl (by decide)
  have m0 : ∀ {τ : cS} {Q : Int32 → Prop}, zgI (cput g x0 P τ hp) (some a) [31] 0 Q = Q (nI t) := fun {τ Q} => ch_I hW t1 (k := 0) rfl (by decide)
  have hB0 := hW.1
  have cl : ∀ c, c < 24 → σ.2.2.2.2.2.2.1 0 c = some (P.1 c) := by rw [hX]; exact hS.1
  have c1 : (nI L.2.1).toNatClampNeg = L.2.1 := nI_clamp (by omega)
  have i1 : vp_in (nI L.2.1) 24 := vp_in_nI k2 (by decide)
  have ct : (nI t).toNatClampNeg = t := nI_clamp (by omega)
  have it : vp_in (nI t) 6 := vp_in_nI ht (by decide)
  -- the other one
  obtain ⟨oR, eR⟩ : ∃ oR : Option Nat, oR = L.2.2.1.map P.1 := ⟨_, rfl⟩
  obtain ⟨oV, eV⟩ : ∃ oV : UInt64, oV = (match L.2.2.1 with | none => FP.dconst0 | some b => σ.2.2.2.1 b) := ⟨_, rfl⟩
  -- behind all
  have fin : ∀ (S : Nat → Prop) (σk σe : cS), cIv fm ly kd rk X t a L ow σ M S σk → (∀ y, S y → y < s_nc L) → (one = none → ∀ y, y < s_nc L → S y) → (∀ p, one = some p → S (s_my L * p.1 + p.2)) → σe.1 = σk.1 → σe.2.2.1 = σk.2.2.1 → σe.2.2.2.2 = σk.2.2.2.2 → σe.2.2.2.1 = σ.2.2.2.1 → K (cput g x0 P (cuI (cuI (cuI (cuI (cuN σe σ.2.1) 8 (σ.1 8)) 9 (σ.1 9)) 2 (σ.1 2)) 3 (σ.1 3)) hp) nx := by
    intro S σk σe hI s1 s2 s3 e1 e2 e3 e4
    obtain ⟨v1, v2, v3, v4, v5, v6, v7, v8, v9, ⟨n, M', n1, n2, n3, n4⟩, v10⟩ := hI
    have hFP : cFP kd L := ⟨v6.fo, fun o ho => (v7 o ho).fo⟩
    have hTL := c_TL hST ht hl hTk' hFP
    have hle : n ≤ s_TL fm ly kd t := by
      rw [n2, ← hTL]
      refine cSW_mono (fun k _ q => ?_)
      obtain ⟨y, y1, y2⟩ := (v9 k).mp q
      exact ⟨y, s1 y y1, y2⟩
    refine hK _ n M' ⟨?_, ?_, ?_, ?_⟩ hle (fun e0 => ?_) ?_ ?_ (by omega) (fun k hk hp => ?_)
    · show σe.2.2.2 = σ.2.2.2
      have : σe.2.2.2 = (σe.2.2.2.1, σe.2.2.2.2) := rfl
      rw [this, e4, e3, v2, ← hX]
    · rfl
    · intro k hk
      by_cases q3 : k = 3
      · rw [q3, cI_s]
      rw [cI_o q3]
      by_cases q2 : k = 2
      · rw [q2, cI_s]
      rw [cI_o q2]
      by_cases q9 : k = 9
      · rw [q9, cI_s]
      rw [cI_o q9]
      by_cases q8 : k = 8
      · rw [q8, cI_s]
      rw [cI_o q8, kN1, e1]
      exact v4 k q2 q3 q8 q9 hk
    · intro q q1 q2 q3
      show σe.2.2.1 q = _
      rw [e2]
      exact v5 q q1 q2 q3
    · rw [n2, ← hTL]
      refine cSW_congr (fun k _ => (v9 k).trans ⟨fun ⟨y, y1, y2⟩ => ⟨y, s1 y y1, y2⟩, fun ⟨y, y1, y2⟩ => ⟨y, s2 e0 y y1, y2⟩⟩)
    · rw [cI_o (by decide), cI_o (by decide), cI_o (by decide), cI_o (by decide), kN1, e1]
      exact n1
    · show cSt σe M'
      unfold cSt
      rw [e2]; exact n3
    · show cRk (σe.2.2.1 t) k _
      rw [e2]
      refine v10 k ?_
      cases ho : one with
      | none => exact s2 ho k hk
      | some p => rw [hp p ho]; exact s3 p ho
  apply met_X0_runs
  unfold wp_X0_runs
  rw [cg_cells, m1, m3, ca_cells]
  refine ⟨i1, ?_⟩
  intro r16 e16
  rw [c1, cl L.2.1 k2] at e16
  subst e16
  rw [m2]
  refine ⟨fun r21 r22 hp1 nx1 => r21 = some (P.1 L.2.1) ∧ r22 = oR ∧ hp1 = cput g x0 P σ hp ∧ nx = nx1, ?_, fun z => ?_, fun z => ?_⟩
  · rintro r21 r22 hp1 nx1 ⟨rfl, rfl, rfl, rfl⟩
    rw [cc_w hW k2]
    refine ⟨fun r29 r30 x31 x32 hp1 nx1 => r29 = some (P.1 L.2.1) ∧ r30 = r22 ∧ x31 = σ.2.2.2.1 L.2.1 ∧ x32 = oV ∧ hp1 = cput g x0 P σ hp ∧ nx = nx1, ?_, fun z => ?_, fun z => ?_⟩
    · rintro r29 r30 x31 x32 hp1 nx1 ⟨rfl, rfl, rfl, rfl, rfl, rfl⟩
      rw [cg_now, cg_atOne, cg_atOther, cg_fault, cg_blamed, cg_sights, m0, ca_sights]
      refine ⟨it, ?_⟩
      intro r66 e66
      rw [ct] at e66
      subst e66
      rw [cz_o]
      refine c_opens (by omega) hW (by rw [hX]; exact hS) ht hTb' hTk' hBL.1 hBL.2.1 (fun σo hO => ?_)
      rw [cp_now]
      refine ⟨hB0, ?_⟩
      obtain ⟨o1, o2, o3, o4, o5, o6, o7, o8, o9⟩ := hO
      obtain ⟨σn, en⟩ : ∃ σn, σn = cuN σo (some a) := ⟨_, rfl⟩
      have hno : ∀ k, ¬ cFl t (σn.2.2.1 t) k := by
        rintro k ⟨q1, q2⟩
        rw [en, kN3, o5, o6 3 (by decide) (by decide)] at q2
        obtain ⟨j, j1, j2, j3⟩ := hSt t hs7
        obtain ⟨i, i1, i2⟩ := j3 k q1
        rw [i2, j2, nI_1, nI_eq (by omega) (by omega)] at q2
        omega
      have hI0 : cIv fm ly kd rk X t a L ow σ M (fun _ => False) σn := by
        refine ⟨by rw [en]; rfl, by rw [en, kN3, o3]; exact hX, fun c _ _ => by rw [en, kN3, o3], fun k _ _ _ _ _ => by rw [en, kN1, o1], fun q _ q2 _ => by rw [en, kN3]; exact o4 q q2, by rw [en, kN3]; exact o8, by rw [en, kN3]; exact o9, fun k hk => absurd hk (hno k), fun k => ⟨fun z => absurd z (hno k), fun ⟨y, y1, _⟩ => y1.elim⟩, ⟨0, M + 1, ?_, ?_, ?_, by omega⟩, fun k hk => hk.elim⟩
        · rw [en, kN1, o1, nI_0, Int32.add_zero]
        · exact (cSW_0 (fun k _ => hno k)).symm
        · intro q hq
          obtain ⟨j, j1, j2, j3⟩ := hSt q hq
          rw [en, kN3]
          by_cases e : q = t
          · subst e
            refine ⟨j + 1, by omega, by rw [o5, j2, nI_1], fun k hk => ?_⟩
            rw [o6 3 (by decide) (by decide)]
            obtain ⟨i, i1, i2⟩ := j3 k hk
            exact ⟨i, by omega, i2⟩
          · rw [o4 q e]
            exact ⟨j, by omega, j2, j3⟩
      rw [← en]
      clear en hno
      refine ⟨fun z => ?_, fun z => ?_⟩
      · have hone : one = none := by
          cases ho : one with
          | none => rfl
          | some p =>
            rw [ho] at z
            have := (hone p ho).1
            exact absurd z (nI_pos (by show p.1 < _; omega))
        refine ⟨fun n q1 q2 q3 q4 q5 q6 q7 q8 q9 q10 q11 hp1 nx1 => ∃ k σk, n + k = s_nc L ∧ q1 = some (P.1 L.2.1) ∧ q2 = r30 ∧ q3 = σ.2.2.2.1 L.2.1 ∧ q4 = x32 ∧ q5 = σ.2.1 ∧ q6 = σ.1 8 ∧ q7 = σ.1 9 ∧ q8 = σ.1 2 ∧ q9 = σ.1 3 ∧ q10 = some (x0 + cSA t) ∧ q11 = nI k ∧ cIv fm ly kd rk X t a L ow σ M (fun y => y < k) σk ∧ hp1 = cput g x0 P σk hp ∧ nx = nx1, ⟨s_nc L, 0, σn, rfl, rfl, rfl, rfl, rfl, rfl, rfl, rfl, rfl, rfl, rfl, rfl, hI0.S (fun y => ⟨fun q => absurd q (Nat.not_lt_zero _), fun q => q.elim⟩), rfl, rfl⟩, ?_⟩
        rintro n q1 q2 q3 q4 q5 q6 q7 q8 q9 q10 q11 hp1 nx1 ⟨k, σk, hk, rfl, rfl, rfl, rfl, rfl, rfl, rfl, rfl, rfl, rfl, rfl, hI, rfl, rfl⟩
        rw [ch_o hW t1 (by decide)]
        refine c_cases (by omega) hW hTb' ?_
        refine pk_le (s_nc L) k (fun q => ?_) (fun q => ?_)
        · have ek : k = s_nc L := by omega
          subst ek
          rw [cc_pw hW k2]
          refine ⟨fun q1 q2 q3 q4 q5 q6 q7 q8 q9 q10 q11 hp1 nx1 => ∃ σe, q5 = σ.2.1 ∧ q6 = σ.1 8 ∧ q7 = σ.1 9 ∧ q8 = σ.1 2 ∧ q9 = σ.1 3 ∧ σe.1 = σk.1 ∧ σe.2.2.1 = σk.2.2.1 ∧ σe.2.2.2.2 = σk.2.2.2.2 ∧ σe.2.2.2.1 = σ.2.2.2.1 ∧ hp1 = cput g x0 P σe hp ∧ nx = nx1, ?_, fun z2 => ?_, fun z2 => ?_⟩
          · rintro q1 q2 q3 q4 q5 q6 q7 q8 q9 q10 q11 hp1 nx1 ⟨σe, rfl, rfl, rfl, rfl, rfl, e1, e2, e3, e4, rfl, rfl⟩
            simp only [cp_now, cp_atOne, cp_atOther, cp_fault, cp_blamed, hB0, true_and]
            exact fin _ σk σe hI (fun y h => h) (fun _ y h => h) (fun p q => by rw [hone] at q; cases q) e1 e2 e3 e4
          · refine ⟨cuO σk L.2.1 (σ.2.2.2.1 L.2.1), rfl, rfl, rfl, rfl, rfl, rfl, rfl, rfl, ?_, rfl, rfl⟩
            funext c
            by_cases ec : c = L.2.1
            · rw [ec, kO_s]
            · rw [kO_o ec]
              exact hI.2.2.1 c ec (fun q => by rw [q] at eR; rw [eR] at z2; cases z2)
          · cases ho : L.2.2.1 with
            | none => rw [ho] at eR; exact absurd eR z2
            | some b =>
              have eR : q2 = some (P.1 b) := by rw [eR, ho]; rfl
              have eV : q4 = σ.2.2.2.1 b := by rw [eV, ho]
              obtain ⟨w1, w2, -, -⟩ := k5 b ho
              rw [eR, eV, cc_pw hW w1]
              refine ⟨cuO (cuO σk L.2.1 (σ.2.2.2.1 L.2.1)) b (σ.2.2.2.1 b), rfl, rfl, rfl, rfl, rfl, rfl, rfl, rfl, ?_, rfl, rfl⟩
              funext c
              by_cases eb : c = b
              · rw [eb, kO_s]
              · rw [kO_o eb]
                by_cases ec : c = L.2.1
                · rw [ec, kO_s]
                · rw [kO_o ec]
                  exact hI.2.2.1 c ec (fun q => by rw [ho] at q; exact eb (Option.some.inj q).symm)
        · have hij := cIJ hTk' q
          rw [ch_o hW t1 (by decide)]
          refine c_many (by omega) hW hTb' ?_
          refine ⟨nI_ne0 (by omega) (by omega), ?_⟩
          rw [ch_o hW t1 (by decide)]
          refine c_many (by omega) hW hTb' ?_
          refine ⟨nI_ne0 (by omega) (by omega), ?_⟩
          rw [cz_o, pk_rem (by omega) (by omega) (by omega), pk_div (by omega) (by omega) (by omega)]
          refine c_binds hW hS hST ht hl hTb' hTk' (hT L hl) hOW hM (fun y (h : y < k) => by omega) hI hij.1 hij.2 (by omega) (by omega) (fun σ' hI' => ?_)
          rintro x139 rfl
          exact ⟨n - 1, by omega, k + 1, σ', by omega, rfl, rfl, rfl, rfl, rfl, rfl, rfl, rfl, rfl, rfl, (nI_succ k).symm, hI'.S (fun y => by rw [Nat.div_add_mod]; omega), rfl, rfl⟩
      · obtain ⟨p, ho⟩ : ∃ p, one = some p := by
          cases ho : one with
          | none => rw [ho] at z; exact absurd (show cIx none < 0 by decide) z
          | some p => exact ⟨p, rfl⟩
        obtain ⟨p1, p2⟩ := hone p ho
        rw [cz_o, show cIx one = nI p.1 by rw [ho]; rfl, show cJx one = nI p.2 by rw [ho]; rfl]
        refine c_binds hW hS hST ht hl hTb' hTk' (hT L hl) hOW hM (fun y h => h.elim) hI0 p1 p2 (by omega) (by omega) (fun σk hI => ?_)
        have hin := (cJI p1 p2).1
        rw [cc_pw hW k2]
        refine ⟨fun q1 q2 q3 q4 q5 q6 q7 q8 q9 q10 hp1 nx1 => ∃ σe, q5 = σ.2.1 ∧ q6 = σ.1 8 ∧ q7 = σ.1 9 ∧ q8 = σ.1 2 ∧ q9 = σ.1 3 ∧ σe.1 = σk.1 ∧ σe.2.2.1 = σk.2.2.1 ∧ σe.2.2.2.2 = σk.2.2.2.2 ∧ σe.2.2.2.1 = σ.2.2.2.1 ∧ hp1 = cput g x0 P σe hp ∧ nx = nx1, ?_, fun z2 => ?_, fun z2 => ?_⟩
        · rintro q1 q2 q3 q4 q5 q6 q7 q8 q9 q10 hp1 nx1 ⟨σe, rfl, rfl, rfl, rfl, rfl, e1, e2, e3, e4, rfl, rfl⟩
          simp only [cp_now, cp_atOne, cp_atOther, cp_fault, cp_blamed, hB0, true_and]
          exact fin _ σk σe hI (fun y h => h.elim (fun q => q.elim) (fun q => by rw [q]; exact hin)) (fun q => by rw [ho] at q; cases q) (fun p' q => by rw [ho] at q; cases q; exact Or.inr rfl) e1 e2 e3 e4
        · refine ⟨cuO σk L.2.1 (σ.2.2.2.1 L.2.1), rfl, rfl, rfl, rfl, rfl, rfl, rfl, rfl, ?_, rfl, rfl⟩
          funext c
          by_cases ec : c = L.2.1
          · rw [ec, kO_s]
          · rw [kO_o ec]
            exact hI.2.2.1 c ec (fun q => by rw [q] at eR; rw [eR] at z2; cases z2)
        · cases hb : L.2.2.1 with
          | none => rw [hb] at eR; exact absurd eR z2
          | some b =>
            have eR : r30 = some (P.1 b) := by rw [eR, hb]; rfl
            have eV : x32 = σ.2.2.2.1 b := by rw [eV, hb]
            obtain ⟨w1, w2, -, -⟩ := k5 b hb
            rw [eR, eV, cc_pw hW w1]
            refine ⟨cuO (cuO σk L.2.1 (σ.2.2.2.1 L.2.1)) b (σ.2.2.2.1 b), rfl, rfl, rfl, rfl, rfl, rfl, rfl, rfl, ?_, rfl, rfl⟩
            funext c
            by_cases eb : c = b
            · rw [eb, kO_s]
            · rw [kO_o eb]
              by_cases ec : c = L.2.1
              · rw [ec, kO_s]
              · rw [kO_o ec]
                exact hI.2.2.1 c ec (fun q => by rw [hb] at q; exact eb (Option.some.inj q).symm)
    · refine ⟨rfl, rfl, rfl, ?_, rfl, rfl⟩
      have hn : L.2.2.1 = none := by
        cases hb : L.2.2.1 with
        | none => rfl
        | some b => rw [hb] at eR; rw [eR] at z; cases z
      rw [eV, hn]
    · cases hb : L.2.2.1 with
      | none => rw [hb] at eR; exact absurd eR z
      | some b =>
        have eR' : r22 = some (P.1 b) := by rw [eR, hb]; rfl
        obtain ⟨w1, w2, -, -⟩ := k5 b hb
        rw [eR', cc_w hW w1]
        exact ⟨rfl, rfl, rfl, by rw [eV, hb], rfl, rfl⟩
  · refine ⟨rfl, ?_, rfl, rfl⟩
    have hn : L.2.2.1 = none := by
      rcases t3 with q | ⟨b, a2, -, q, -⟩
      · exact q.1
      · rw [z] at q; cases q
    rw [eR, hn]; rfl
  · rcases t3 with q | ⟨b, a2', q1, q2, q3⟩
    · exact absurd q.2 z
    subst q2
    obtain ⟨b2, t5⟩ : ∃ b1, hp a2' = some (.inr (32, [.int (nI b), .ref b1])) := by obtain ⟨b1, f1, q1, -, -⟩ := q3; exact ⟨b1, q1⟩
    obtain ⟨w1, w2, w3, w4⟩ := k5 b q1
    have m4 : ∀ {τ : cS} {Q : Int32 → Prop}, zgI (cput g x0 P τ hp) (some a2') [32] 0 Q = Q (nI b) := fun {τ Q} => ch_I hW t5 (k := 0) rfl (by decide)
    have c2 : (nI b).toNatClampNeg = b := nI_clamp (by omega)
    have i2 : vp_in (nI b) 24 := vp_in_nI w1 (by decide)
    rw [cg_cells, m2, m4, ca_cells]
    refine ⟨i2, ?_⟩
    intro r e
    rw [c2, cl b w1] at e
    subst e
    exact ⟨rfl, by rw [eR, q1]; rfl, rfl, rfl⟩
/-- telling, by rank -/
theorem c_all (hW : cW g x0 P hp) (hS : cSH g x0 P hp X fm ly kd) (hST : sST fm ly rk) : ∀ n, (∀ c, c < 24 → rk c < n → cTl l g x0 P hp nx X fm ly kd rk (45 * n) c) ∧ (∀ t, t < 6 → rk (24 + t) < n → cRn l g x0 P hp nx X fm ly kd rk (45 * n) t) := by
  intro n
  induction n with
  | zero => exact ⟨fun c _ h => absurd h (Nat.not_lt_zero _), fun t _ h => absurd h (Nat.not_lt_zero _)⟩
  | succ n ih =>
    refine ⟨fun c hc h => ?_, fun t ht h => ?_⟩
    · exact c_tell (D := 45 * n) hW hS hST hc (fun m hm h24 => ih.1 m.1 h24 (by have := hST.1.1 c hc m hm h24; omega)) (fun m hm h3 => ih.2 _ (hST.2.1 c hc m hm h3) (by have := hST.1.2.1 c hc m hm h3; omega))
    · have := c_runs (l := l) (nx := nx) (D := 45 * n) (t := t) hW hS hST ht (fun L hl => ih.1 L.1 (hST.1.2.2 t ht L hl).1 (by have := (hST.1.2.2 t ht L hl).2; omega))
      intro d M a L one ow σ K hd
      exact this d M a L one ow σ K (by omega)
end RU
