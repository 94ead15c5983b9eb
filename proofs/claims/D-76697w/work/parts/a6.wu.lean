set_option maxRecDepth 100000
/-! what any node is worth -/
section WU
variable {l : Launch} {g : zG} {x0 : Nat} {P : cP} {hp : zHp} {nx : Nat} {full : List sM} {J : List sM → cS → Prop} {cv : Nat → sT} {tv : Nat → Nat → UInt64 × Int32} {c0 D : Nat}
theorem cDi_14 {d a : Nat} {hp1 : zHp} {PP : UInt64 → zHp → Nat → Prop} (h : zMt l g yX14_worth cX14_worth 11 (some .double) d 0 0 [.ref a] hp1 nx (zQd g PP)) : cDi l g d a 14 hp1 nx PP := by
  unfold cDi
  refine ⟨fun _ => h, ?_⟩
  simp
theorem cDi_15 {d a ci : Nat} {hp1 : zHp} {PP : UInt64 → zHp → Nat → Prop} (hc : ci = 16 ∨ ci = 17 ∨ ci = 29) (h : zMt l g yX15_worth cX15_worth 5 (some .double) d 0 0 [.ref a] hp1 nx (zQd g PP)) : cDi l g d a ci hp1 nx PP := by
  unfold cDi
  rcases hc with rfl | rfl | rfl <;> simp <;> exact h
theorem cDi_18 {d a ci : Nat} {hp1 : zHp} {PP : UInt64 → zHp → Nat → Prop} (h1 : 18 ≤ ci) (h2 : ci ≤ 22) (h : zMt l g yX18_worth cX18_worth 2 (some .double) d 0 0 [.ref a] hp1 nx (zQd g PP)) : cDi l g d a ci hp1 nx PP := by
  have : ci = 18 ∨ ci = 19 ∨ ci = 20 ∨ ci = 21 ∨ ci = 22 := by omega
  unfold cDi
  rcases this with rfl | rfl | rfl | rfl | rfl <;> simp <;> exact h
theorem cDi_23 {d a : Nat} {hp1 : zHp} {PP : UInt64 → zHp → Nat → Prop} (h : zMt l g yX23_worth cX23_worth 1 (some .double) d 0 0 [.ref a] hp1 nx (zQd g PP)) : cDi l g d a 23 hp1 nx PP := by
  unfold cDi; simp; exact h
theorem cDi_24 {d a : Nat} {hp1 : zHp} {PP : UInt64 → zHp → Nat → Prop} (h : zMt l g yX24_worth cX24_worth 1 (some .double) d 0 0 [.ref a] hp1 nx (zQd g PP)) : cDi l g d a 24 hp1 nx PP := by
  unfold cDi; simp; exact h
theorem cDi_25 {d a : Nat} {hp1 : zHp} {PP : UInt64 → zHp → Nat → Prop} (h : zMt l g yX25_worth cX25_worth 1 (some .double) d 0 0 [.ref a] hp1 nx (zQd g PP)) : cDi l g d a 25 hp1 nx PP := by
  unfold cDi; simp; exact h
theorem cDi_26 {d a ci : Nat} {hp1 : zHp} {PP : UInt64 → zHp → Nat → Prop} (hc : ci = 26 ∨ ci = 27) (h : zMt l g yX26_worth cX26_worth 4 (some .double) d 0 0 [.ref a] hp1 nx (zQd g PP)) : cDi l g d a ci hp1 nx PP := by
  unfold cDi
  rcases hc with rfl | rfl <;> simp <;> exact h
/-- two parts and what joins them -/
theorem c_twoW (hW : cW g x0 P hp) (hH : cHy l g x0 P hp nx full J cv tv c0 D) {d a ci m : Nat} {fs : List Value} {b e : Nat} {ps qs pre post : List sM} {σ : cS} (hd6 : 6 ≤ d)
    (ha : hp a = some (.inr (ci, fs))) (hci : (ci = 16 ∧ m = 208) ∨ (ci = 17 ∧ m = 209) ∨ (ci = 29 ∧ ∃ z : Int32, fs[4]? = some (.int z) ∧ m = 200 + (if z = 0 then 7 else 6))) (f1 : fs[0]? = some (.ref b)) (f2 : fs[1]? = some (.ref e))
    (hb : cWn l g x0 P hp nx full J cv tv c0 d b ps) (he : cWn l g x0 P hp nx full J cv tv c0 d e qs) (hf : full = pre ++ ((ps ++ (qs ++ [(m, 0)])) ++ post)) (hJ : J pre (cNo σ)) : zMt l g yX15_worth cX15_worth 5 (some .double) (d + 1) 0 0 [.ref a] (cput g x0 P σ hp) nx (zQd g (cPW g x0 P hp nx J cv tv c0 pre (ps ++ (qs ++ [(m, 0)])) σ)) := by
  obtain ⟨hJt, hJo, -, -, hB⟩ := hH
  have hS : ci ∈ [16, 17, 29] := by rcases hci with e | e | e <;> (rw [e.1]; decide)
  have hm : 206 ≤ m ∧ m ≤ 209 := by
    rcases hci with e | e | ⟨-, z, -, e⟩
    · omega
    · omega
    · rw [e]; split <;> omega
  apply met_X15_worth
  unfold wp_X15_worth
  rw [ch_R hW ha (show fs[0]? = some (va_rf (some b)) from f1) hS]
  obtain ⟨ci1, fs1, g1, g2, g3⟩ := hb pre (qs ++ ((m, 0) :: post)) σ (by rw [hf]; simp only [List.append_assoc, List.cons_append, List.nil_append]) hJ
  rw [ch_o hW g1 g2]
  refine ⟨_, ?_, g3⟩
  rintro x hp1 nx1 ⟨ra, σ1, hr1, hJ1, hs1, rfl, rfl⟩
  rw [ch_R hW ha (show fs[1]? = some (va_rf (some e)) from f2) hS]
  obtain ⟨ci2, fs2, k1, k2, k3⟩ := he (pre ++ ps) ((m, 0) :: post) σ1 (by rw [hf]; simp only [List.append_assoc, List.cons_append, List.nil_append]) hJ1
  rw [ch_o hW k1 k2]
  refine ⟨_, ?_, k3⟩
  rintro y hp1 nx1 ⟨rb, σ2, hr2, hJ2, hs2, rfl, rfl⟩
  have ht : σ2.1 4 = nI c0 := by have := hJt _ _ hJ2; rw [cNo_1 (by decide) (by decide)] at this; exact this
  have hJ3 : J (pre ++ (ps ++ (qs ++ [(m, 0)]))) (cNo σ2) := by
    have := hJo _ (m, 0) post _ (by rw [hf]; simp only [List.append_assoc, List.cons_append, List.nil_append]) (show 24 ≤ m by omega) (show m < 300 by omega) hJ2
    simpa only [List.append_assoc] using this
  have hrn : ∀ st, s_run cv tv c0 (ps ++ (qs ++ [(m, 0)])) st = s_two c0 (m - 200) ra rb :: st := by
    intro st
    rw [s_run_append, hr1, s_run_append, hr2, s_run_one, s_act_op (by omega) (by omega)]
  have hvB : s_B (s_op (m - 200) x y) := by
    have : m = 206 ∨ m = 207 ∨ m = 208 ∨ m = 209 := by omega
    have b1 : s_B FP.dconst1 := fb_i2d (x := 1)
    rcases this with rfl | rfl | rfl | rfl
    · show s_B (s_if _ _ _); by_cases q : s_lt x y; rw [s_if_p q]; exact b1; rw [s_if_n q]; exact fk_B0
    · show s_B (s_if _ _ _); by_cases q : s_eq x y; rw [s_if_p q]; exact b1; rw [s_if_n q]; exact fk_B0
    · show s_B (s_if _ _ _); by_cases q : s_lt y x; rw [s_if_p q]; exact hs2.1; rw [s_if_n q]; exact hs1.1
    · show s_B (s_if _ _ _); by_cases q : s_gt y x; rw [s_if_p q]; exact hs2.1; rw [s_if_n q]; exact hs1.1
  have hend : cPW g x0 P hp nx J cv tv c0 pre (ps ++ (qs ++ [(m, 0)])) σ (s_op (m - 200) x y) (cput g x0 P σ2 hp) nx := ⟨_, σ2, hrn, hJ3, cRs_two hs1 hs2 ht hvB (Or.inr (Or.inr ⟨by omega, fun z => by omega, rfl, rfl⟩)), rfl, rfl⟩
  rw [ch_o hW ha hS]
  refine ⟨fun v hp1 nx1 => v = s_op (m - 200) x y ∧ hp1 = cput g x0 P σ2 hp ∧ nx = nx1, ?_, fun q => ?_, fun q => ?_, fun q => ?_⟩
  · rintro v hp1 nx1 ⟨rfl, rfl, rfl⟩
    exact hend
  · subst q
    have em : m = 208 := by rcases hci with e | e | ⟨e, -⟩; exact e.2; omega; omega
    subst em
    exact c_joinM hW ha (Or.inl rfl) (by omega) hs1.1 hs2.1 ⟨rfl, rfl, rfl⟩
  · subst q
    have em : m = 209 := by rcases hci with e | e | ⟨e, -⟩; omega; exact e.2; omega
    subst em
    exact c_joinM hW ha (Or.inr rfl) (by omega) hs1.1 hs2.1 ⟨rfl, rfl, rfl⟩
  · subst q
    have em : ∃ z : Int32, fs[4]? = some (.int z) ∧ m = 200 + (if z = 0 then 7 else 6) := by rcases hci with e | e | ⟨-, e⟩; omega; omega; exact e
    obtain ⟨z, hz, hm2⟩ := em
    refine c_joinC hW ha hz (by omega) ⟨?_, rfl, rfl⟩
    rw [show m - 200 = (if z = 0 then 7 else 6) by omega]
theorem c_worth (hW : cW g x0 P hp) (hH : cHy l g x0 P hp nx full J cv tv c0 D) : ∀ (n d a : Nat) (ms : List sM), cNd hp x0 n a ms → D + n + 6 ≤ d → cWn l g x0 P hp nx full J cv tv c0 d a ms := by
  intro n
  induction n with
  | zero => intro d a ms h; exact h.elim
  | succ n ih =>
    intro d a ms h hd pre post σ hf hJ
    obtain ⟨hJt, hJo, hT, hA, hB⟩ := hH
    obtain ⟨d, rfl⟩ := Nat.exists_eq_add_of_le' (show 1 ≤ d by omega)
    have hH : cHy l g x0 P hp nx full J cv tv c0 D := ⟨hJt, hJo, hT, hA, hB⟩
    rcases h with ⟨v, m, ha, m1, m2, rfl⟩ | ⟨c, hc, ha, rfl⟩ | ⟨b, ps, ha, hb, rfl⟩ | ⟨b, h, la, ps, qs, ha, hb, hL, rfl⟩ | ⟨b, h, la, ps, qs, ha, hb, hL, rfl⟩ | ⟨b, e, ps, qs, ha, hb, he, rfl⟩ | ⟨b, e, ps, qs, ha, hb, he, rfl⟩ | ⟨b, e, ps, qs, z, m, ha, hb, he, hm, rfl⟩ | ⟨b, e, f, ps, qs, rs, ha, hb, he, hg, rfl⟩ | ⟨ci, t, c1, c2, ht, ha, rfl⟩
    · refine ⟨_, _, ha, by decide, cDi_24 ?_⟩
      apply met_X24_worth
      unfold wp_X24_worth
      rw [ch_D hW ha (x := v) rfl (by decide)]
      refine ⟨(v, 0, -1), σ, fun st => ?_, hJo _ _ post _ (by rw [hf]; rfl) m1 (show m < 300 by omega) hJ, cRs_rf rfl (hB (m, v) (by rw [hf]; simp)), rfl, rfl⟩
      rw [s_run_one]
      unfold s_act
      rw [if_neg (show ¬ m < 24 by omega), if_pos (show m < 200 from m2)]
    · refine ⟨_, _, ha, by decide, cDi_23 ?_⟩
      apply met_X23_worth
      unfold wp_X23_worth
      rw [ch_R hW ha (r := some x0) rfl (by decide), ch_I hW ha (x := nI c) rfl (by decide), cz_o]
      refine hT pre (c, 0) post σ d _ (by omega) (by rw [hf]; rfl) hc hJ (fun v σ' h1 h2 => ?_)
      refine ⟨((cv c).1, (cv c).2.1, if (cv c).2.1 = 0 then -1 else (cv c).2.2), σ', fun st => ?_, h1, ⟨h2.1, h2.2.1, fun q => ⟨(h2.2.2 q).1, fun z => ?_⟩⟩, rfl, rfl⟩
      · rw [s_run_one]
        unfold s_act
        rw [if_pos (show c < 24 from hc)]
      · have := (h2.2.2 q).2 z
        refine ⟨this.1, ?_⟩
        show _ = if (cv c).2.1 = 0 then -1 else (cv c).2.2
        rw [if_neg z]
        exact this.2
    · refine ⟨_, _, ha, by decide, cDi_25 ?_⟩
      apply met_X25_worth
      unfold wp_X25_worth
      rw [ch_R hW ha (r := some b) rfl (by decide)]
      obtain ⟨ci1, fs1, g1, g2, g3⟩ := ih d b ps hb (by omega) pre ((200, 0) :: post) σ (by rw [hf]; simp only [List.append_assoc, List.cons_append, List.nil_append]) hJ
      rw [ch_o hW g1 g2]
      refine ⟨_, ?_, g3⟩
      rintro x hp1 nx1 ⟨ra, σ1, hr1, hJ1, hs1, rfl, rfl⟩
      refine ⟨(FP.dneg ra.1, ra.2), σ1, fun st => ?_, ?_, ⟨fb_neg hs1.1, hs1.2.1, fun q => ⟨fun z => ?_, (hs1.2.2 q).2⟩⟩, rfl, rfl⟩
      · rw [s_run_append, hr1, s_run_one]
        rfl
      · have := hJo _ (200, 0) post _ (by rw [hf]; simp only [List.append_assoc, List.cons_append, List.nil_append]) (show 24 ≤ 200 by decide) (show 200 < 300 by decide) hJ1
        simpa only [List.append_assoc] using this
      · have := (hs1.2.2 q).1 z
        exact ⟨by rw [this.1], this.2⟩
    · refine ⟨_, _, ha, by decide, cDi_26 (Or.inl rfl) ?_⟩
      exact c_chain hW hH (by omega) (by omega) ha (Or.inl ⟨rfl, rfl⟩) rfl rfl rfl (fun q => by cases q) (ih d b ps hb (by omega)) (fun e es he => ih d e es he (by omega)) hL hf hJ
    · refine ⟨_, _, ha, by decide, cDi_26 (Or.inr rfl) ?_⟩
      exact c_chain hW hH (by omega) (by omega) ha (Or.inr ⟨rfl, rfl⟩) rfl rfl rfl (fun q => rfl) (ih d b ps hb (by omega)) (fun e es he => ih d e es he (by omega)) hL hf hJ
    · refine ⟨_, _, ha, by decide, cDi_15 (Or.inl rfl) ?_⟩
      exact c_twoW hW hH (by omega) ha (Or.inl ⟨rfl, rfl⟩) rfl rfl (ih d b ps hb (by omega)) (ih d e qs he (by omega)) hf hJ
    · refine ⟨_, _, ha, by decide, cDi_15 (Or.inr (Or.inl rfl)) ?_⟩
      exact c_twoW hW hH (by omega) ha (Or.inr (Or.inl ⟨rfl, rfl⟩)) rfl rfl (ih d b ps hb (by omega)) (ih d e qs he (by omega)) hf hJ
    · refine ⟨_, _, ha, by decide, cDi_15 (Or.inr (Or.inr rfl)) ?_⟩
      refine c_twoW hW hH (by omega) ha (Or.inr (Or.inr ⟨rfl, z, rfl, ?_⟩)) rfl rfl (ih d b ps hb (by omega)) (ih d e qs he (by omega)) hf hJ
      rcases hm with ⟨rfl, rfl⟩ | ⟨rfl, rfl⟩
      · decide
      · decide
    · refine ⟨_, _, ha, by decide, cDi_14 ?_⟩
      apply met_X14_worth
      unfold wp_X14_worth
      have r0 : ∀ {τ : cS} {Q : Option Nat → Prop}, zgR (cput g x0 P τ hp) (some a) [14] 4 Q = Q (some x0) := fun {τ Q} => ch_R hW ha (r := some x0) rfl (by decide)
      have r1 : ∀ {τ : cS} {Q : Option Nat → Prop}, zgR (cput g x0 P τ hp) (some a) [14] 1 Q = Q (some b) := fun {τ Q} => ch_R hW ha (r := some b) rfl (by decide)
      have r2 : ∀ {τ : cS} {Q : Option Nat → Prop}, zgR (cput g x0 P τ hp) (some a) [14] 2 Q = Q (some e) := fun {τ Q} => ch_R hW ha (r := some e) rfl (by decide)
      have r3 : ∀ {τ : cS} {Q : Option Nat → Prop}, zgR (cput g x0 P τ hp) (some a) [14] 3 Q = Q (some f) := fun {τ Q} => ch_R hW ha (r := some f) rfl (by decide)
      have hB0 := hW.1
      rw [r1]
      obtain ⟨ci1, fs1, g1, g2, g3⟩ := ih d b ps hb (by omega) pre (qs ++ (rs ++ ((210, 0) :: post))) σ (by rw [hf]; simp only [List.append_assoc, List.cons_append, List.nil_append]) hJ
      rw [ch_o hW g1 g2]
      refine ⟨_, ?_, g3⟩
      rintro w hp1 nx1 ⟨rx, σ1, hr1, hJ1, hs1, rfl, rfl⟩
      simp only [r0, r2, cg_fault, cg_blamed]
      obtain ⟨ci2, fs2, k1, k2, k3⟩ := ih d e qs he (by omega) (pre ++ ps) (rs ++ ((210, 0) :: post)) σ1 (by rw [hf]; simp only [List.append_assoc, List.cons_append, List.nil_append]) hJ1
      rw [ch_o hW k1 k2]
      refine ⟨_, ?_, k3⟩
      rintro x hp1 nx1 ⟨ry, σ2, hr2, hJ2, hs2, rfl, rfl⟩
      simp only [r0, r3, cg_fault, cg_blamed, cp_fault, cp_blamed, hB0, true_and]
      obtain ⟨ci3, fs3, j1, j2, j3⟩ := ih d f rs hg (by omega) ((pre ++ ps) ++ qs) ((210, 0) :: post) (cuI (cuI σ2 2 (σ1.1 2)) 3 (σ1.1 3)) (by rw [hf]; simp only [List.append_assoc, List.cons_append, List.nil_append]) (by rw [cNo_i3, cNo_i2]; exact hJ2)
      rw [ch_o hW j1 j2]
      refine ⟨_, ?_, j3⟩
      rintro y hp1 nx1 ⟨rz, σ3, hr3, hJ3, hs3, rfl, rfl⟩
      have hpk := cRs_pick hs1 hs2 hs3
      have hrn : ∀ st, s_run cv tv c0 (ps ++ (qs ++ (rs ++ [(210, 0)]))) st = s_pick rx ry rz :: st := by
        intro st
        rw [s_run_append, hr1, s_run_append, hr2, s_run_append, hr3, s_run_one]
        rfl
      have hJ4 : J (pre ++ (ps ++ (qs ++ (rs ++ [(210, 0)])))) (cNo σ3) := by
        have := hJo _ (210, 0) post _ (by rw [hf]; simp only [List.append_assoc, List.cons_append, List.nil_append]) (show 24 ≤ 210 by decide) (show 210 < 300 by decide) hJ3
        simpa only [List.append_assoc] using this
      refine ⟨fun a1 a2 a3 a4 a5 a6 a7 hp1 nx1 => (σ1.1 2 ≠ 0 ∨ ¬ s_eq w 0) ∧ a2 = σ1.1 2 ∧ a3 = σ1.1 3 ∧ x = a4 ∧ a5 = σ2.1 2 ∧ a6 = σ2.1 3 ∧ hp1 = cput g x0 P σ3 hp ∧ nx = nx1, ?_, fun q => ⟨fun q2 => ?_, fun q2 => ?_⟩, fun q => ?_⟩
      · rintro a1 a2 a3 a4 a5 a6 a7 hp1 nx1 ⟨hcond, rfl, rfl, rfl, rfl, rfl, rfl, rfl⟩
        have hp1 := hpk.1 hcond
        simp only [r0]
        refine ⟨_, fun _ _ _ _ _ _ _ _ _ _ _ h => h, ?_⟩
        have fin : ∀ u v, u = (if σ1.1 2 = 0 then σ2.1 2 else σ1.1 2) → v = (if σ1.1 2 = 0 then σ2.1 3 else σ1.1 3) → cPW g x0 P hp nx J cv tv c0 pre (ps ++ (qs ++ (rs ++ [(210, 0)]))) σ x (cput g x0 P (cuI (cuI σ3 2 u) 3 v) hp) nx := by
          rintro u v rfl rfl
          exact ⟨_, _, hrn, by rw [cNo_i3, cNo_i2]; exact hJ4, hp1, rfl, rfl⟩
        refine ⟨fun q => ?_, fun q => ?_⟩
        · simp only [cp_fault, r0, hB0, true_and]
          refine ⟨_, fun _ _ _ _ _ _ _ _ _ _ _ h => h, ?_⟩
          simp only [cp_blamed, hB0, true_and]
          exact ⟨fun q2 => fin _ _ (by rw [if_pos q]) (by rw [if_pos q]), fun q2 => absurd q q2⟩
        · simp only [cp_fault, r0, hB0, true_and]
          refine ⟨_, fun _ _ _ _ _ _ _ _ _ _ _ h => h, ?_⟩
          simp only [cp_blamed, hB0, true_and]
          exact ⟨fun q2 => absurd q2 q, fun q2 => fin _ _ (by rw [if_neg q]) (by rw [if_neg q])⟩
      · exact ⟨_, _, hrn, hJ4, hpk.2 (by rintro (z | z); exact z q; exact z (fc_l0.mp q2)), rfl, rfl⟩
      · exact ⟨Or.inr (fun z => q2 (fc_l0.mpr z)), rfl, rfl, rfl, rfl, rfl, rfl, rfl⟩
      · exact ⟨Or.inl q, rfl, rfl, rfl, rfl, rfl, rfl, rfl⟩
    · refine ⟨_, _, ha, by simp only [List.mem_cons]; omega, cDi_18 c1 c2 ?_⟩
      have em : (300 + 10 * (ci - 18) + t) % 10 = t := by omega
      have ed : (300 + 10 * (ci - 18) + t - 300) / 10 = ci - 18 := by omega
      refine hA pre (300 + 10 * (ci - 18) + t, 0) post σ (d + 1) a ci _ (by omega) (by rw [hf]; rfl) c1 c2 (by omega) (by omega) (by show hp a = some (.inr (ci, cAk ci x0 ((300 + 10 * (ci - 18) + t) % 10))); rw [em]; exact ha) hJ (fun v σ' h1 h2 => ?_)
      rw [em] at h2
      refine ⟨((tv t (ci - 18)).1, (tv t (ci - 18)).2, if (tv t (ci - 18)).2 = 0 then -1 else nI c0), σ', fun st => ?_, h1, ⟨h2.1, h2.2.1, fun q => ⟨(h2.2.2 q).1, fun z => ?_⟩⟩, rfl, rfl⟩
      · rw [s_run_one]
        unfold s_act
        dsimp only
        rw [if_neg (by omega), if_neg (by omega), if_pos (by omega), em, ed]
      · have := (h2.2.2 q).2 z
        refine ⟨this.1, ?_⟩
        show _ = if (tv t (ci - 18)).2 = 0 then -1 else nI c0
        rw [if_neg z]
        exact this.2
end WU
