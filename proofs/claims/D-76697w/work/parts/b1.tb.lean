set_option maxRecDepth 100000
/-! new objects; table, varies, axis -/
section TB
variable {l : Launch} {g : zG} {d x0 : Nat} {P : cP} {σ σ' : cS} {hp hp' : zHp} {nx M M' : Nat} {A : sV} {S : sSt} {fm : sF} {ly : sY} {kd : Nat → Int32} {mc ms kc ks : Nat}
theorem c_nw {ci : Nat} (hW : cW g x0 P hp) (hk : kc + 1 ≤ mc) (hs : ks + zNn ci ≤ ms) {K : zHp → Prop} (hK : ¬ cOv x0 P nx → hp nx = none → zB g ≤ nx → (∀ (a : Nat) (e : va_E), hp a = some e → a < nx) → K (cput g x0 P σ (va_up hp nx (some (.inr (ci, zNf ci)))))) : znw g mc ms (cput g x0 P σ hp) nx kc ks ci K := by
  refine ⟨hk, hs, fun hf hz => ?_⟩
  obtain ⟨a, b⟩ := c_fresh hW hf
  rw [cput_hq a]
  exact hK a b hz (fun q e h => hf q e (cput_h hW h))
theorem c_nar {t n : Nat} {x : (Nat → Int32) ⊕ (Nat → Int64) ⊕ (Nat → UInt32) ⊕ (Nat → UInt64) ⊕ (Nat → Option Nat)} (hW : cW g x0 P hp) (hn : n ≤ 65536) (hk : kc + 1 ≤ mc) (hs : ks + n ≤ ms) {K : zHp → Prop} (hK : ¬ cOv x0 P nx → hp nx = none → zB g ≤ nx → (∀ (a : Nat) (e : va_E), hp a = some e → a < nx) → K (cput g x0 P σ (va_up hp nx (some (.inl (g.2.1 t, n, x)))))) : zna g mc ms (cput g x0 P σ hp) nx kc ks t (nI n) x K := by
  have e : (nI n).toNatClampNeg = n := nI_clamp (by omega)
  refine ⟨nI_pos (by omega), by rw [e]; exact hn, hk, by rw [e]; exact hs, fun hf hz => ?_⟩
  obtain ⟨a, b⟩ := c_fresh hW hf
  rw [e, cput_hq a]
  exact hK a b hz (fun q e h => hf q e (cput_h hW h))
theorem zNn_31 : zNn 31 = 4 := by decide +kernel
theorem zNf_31 : zNf 31 = [.int 0, .int 0, va_rf none, va_rf none] := by decide +kernel
theorem zNn_32 : zNn 32 = 2 := by decide +kernel
theorem zNf_32 : zNf 32 = [.int 0, va_rf none] := by decide +kernel
theorem c_x32 {q : Nat} {u w : Value} {v : Int32} {r : Option Nat} (hW : cW g x0 P hp) (hq : ¬ cOv x0 P q) (h : hp q = some (.inr (32, [u, w]))) (hz : zB g ≤ q) (hd : 1 ≤ d) {K : zHp → Nat → Prop} (hK : K (cput g x0 P σ (va_up hp q (some (.inr (32, [.int v, va_rf r]))))) nx) : zMt l g yX32_init cX32_init 3 none d 0 0 [.ref q, .int v, va_rf r] (cput g x0 P σ hp) nx (zQv g K) := by
  obtain ⟨d, rfl⟩ := Nat.exists_eq_add_of_le' (show 1 ≤ d by omega)
  have sn : ∀ {fs : List Value}, va_up (cput g x0 P σ hp) q (some (.inr (32, fs))) q = some (.inr (32, fs)) := fun {fs} => va_s
  apply met_X32_init
  unfold wp_X32_init
  rw [hz_p (cput_h hW h) (by decide) (by simp)]
  refine ⟨hz, ?_⟩
  rw [hz_p sn (by decide) (by simp)]
  refine ⟨hz, ?_⟩
  rw [cva_uu, cput_hq hq]
  exact hK
theorem c_x31 {q : Nat} {u w y z : Value} {v x : Int32} {r s : Option Nat} (hW : cW g x0 P hp) (hq : ¬ cOv x0 P q) (h : hp q = some (.inr (31, [u, w, y, z]))) (hz : zB g ≤ q) (hd : 1 ≤ d) {K : zHp → Nat → Prop} (hK : K (cput g x0 P σ (va_up hp q (some (.inr (31, [.int v, .int x, va_rf r, va_rf s]))))) nx) : zMt l g yX31_init cX31_init 5 none d 0 0 [.ref q, .int v, .int x, va_rf r, va_rf s] (cput g x0 P σ hp) nx (zQv g K) := by
  obtain ⟨d, rfl⟩ := Nat.exists_eq_add_of_le' (show 1 ≤ d by omega)
  have sn : ∀ {fs : List Value}, va_up (cput g x0 P σ hp) q (some (.inr (31, fs))) q = some (.inr (31, fs)) := fun {fs} => va_s
  apply met_X31_init
  unfold wp_X31_init
  rw [hz_p (cput_h hW h) (by decide) (by simp)]
  refine ⟨hz, ?_⟩
  rw [hz_p sn (by decide) (by simp)]
  refine ⟨hz, ?_⟩
  rw [cva_uu, hz_p sn (by decide) (by simp)]
  refine ⟨hz, ?_⟩
  rw [cva_uu, hz_p sn (by decide) (by simp)]
  refine ⟨hz, ?_⟩
  rw [cva_uu, cput_hq hq]
  exact hK
theorem cINV.mo (hl : hLe hp hp') (hW : cW g x0 P hp') (h : cINV g x0 P hp σ A M) : cINV g x0 P hp' σ A M := by
  obtain ⟨i1, i2, i3, i4, i5, ⟨j1, j2⟩, i7, i8⟩ := h
  exact ⟨hW, i2.mo hl, i3, i4, i5, ⟨j1.mo hl, j2⟩, i7.mo hl, i8⟩
/-- a table as good as another is laid as well -/
theorem s_rk_sim {t : Nat} {L L' : sL} {rk : Nat → Nat} (hr : s_rk fm ly rk) (hl : ly t = some L) (e : L'.1 = L.1) : s_rk fm (s_up ly t (some L')) rk := by
  refine ⟨hr.1, hr.2.1, fun u hu L1 hL1 => ?_⟩
  by_cases q : u = t
  · subst q
    rw [s_up_s] at hL1
    cases hL1
    rw [e]
    exact hr.2.2 u hu L hl
  · rw [s_up_o q] at hL1
    exact hr.2.2 u hu L1 hL1
/-- a table's axis gets other numbers -/
theorem c_varies (hV : sOK A.1) (hI : cINV g x0 P hp σ A M) {t w b : Nat} {L : sL} {ns : List UInt64} {f : Nat → UInt64} (ht : t < 6) (hl : A.1.2.1 t = some L) (hw : w < 2) (hw1 : w = 1 → L.2.2.1 ≠ none) (hb : hp b = some (.inl (g.2.1 1, ns.length, .inr (.inr (.inr (.inl f)))))) (hf : ∀ j, j < ns.length → f j = ns.getD j 0) (hzb : cZn g b) (hn : 1 ≤ ns.length ∧ ns.length ≤ 8) (hd : 30 ≤ d) (hmc : 246 ≤ mc) (hms : 1474 ≤ ms) {K : Int32 → zHp → Nat → Prop}
    (hK : ∀ σ' hp' nx', cINV g x0 P hp' σ' (o_lay A t (s_ax L w ns)).2 M → hLe hp hp' → nx ≤ nx' → K (o_lay A t (s_ax L w ns)).1 (cput g x0 P σ' hp') nx') : zMt l g yX0_varies cX0_varies 7 (some .int) d mc ms [.ref x0, .int (nI t), .int (nI w), va_rf (some b)] (cput g x0 P σ hp) nx (zQi g K) := by
  obtain ⟨d, rfl⟩ := Nat.exists_eq_add_of_le' (show 1 ≤ d by omega)
  have hI' := hI
  obtain ⟨i1, i2, i3, i4, i5, i6, i7⟩ := hI
  have ct : (nI t).toNatClampNeg = t := nI_clamp (by omega)
  have it : vp_in (nI t) 6 := vp_in_nI ht (by decide)
  obtain ⟨a0, ha0, hTb, hTk⟩ : ∃ a0, σ.2.2.2.2.2.2.1 1 t = some a0 ∧ cTb g hp a0 t L ∧ cTk L := by
    rcases i6.1.2.2.2 t ht with ⟨q, -⟩ | ⟨a0, L', q1, q2, q3, q4⟩
    · rw [hl] at q; cases q
    · rw [hl] at q1; cases q1; exact ⟨a0, q2, q3, q4⟩
  obtain ⟨a1, r2, h1, h2, h3⟩ := hTb
  have hw' : w = 0 ∨ w = 1 := by omega
  have ew : (nI w = 0) ↔ w = 0 := by
    rcases hw' with rfl | rfl
    · exact ⟨fun _ => rfl, fun _ => rfl⟩
    · exact ⟨fun z => absurd z (by decide), fun z => absurd z (by decide)⟩
  apply met_X0_varies
  unfold wp_X0_varies
  rw [cg_tables, ca_tables]
  refine ⟨it, ?_⟩
  intro r8 e8
  rw [ct, ha0] at e8
  subst e8
  refine c_nw i1 (by omega) (by rw [zNn_32]; omega) (fun u1 u2 u3 u4 => ?_)
  obtain ⟨hp9, e9⟩ : ∃ hp9, hp9 = va_up hp nx (some (.inr (32, zNf 32))) := ⟨_, rfl⟩
  rw [← e9]
  have l9 : hLe hp hp9 := by rw [e9]; exact hLe.up u2
  have w9 : cW g x0 P hp9 := by rw [e9]; exact cW_hq u1 i1
  have n9 : hp9 nx = some (.inr (32, [.int 0, va_rf none])) := by rw [e9, va_s, zNf_32]
  intro nx10 kc11 ks12 ex10 ek11 es12
  rw [zNn_32] at es12
  /- the input that varies -/
  obtain ⟨c, hcd, hcx⟩ : ∃ c : Nat, (w = 0 → c = L.2.1) ∧ (w = 1 → L.2.2.1 = some c) := by
    rcases hw' with rfl | rfl
    · exact ⟨L.2.1, fun _ => rfl, fun z => absurd z (by decide)⟩
    · cases hx : L.2.2.1 with
      | none => exact absurd hx (hw1 rfl)
      | some c => exact ⟨c, fun z => absurd z (by decide), fun _ => rfl⟩
  refine ⟨fun r13 r14 r15 x16 hp17 nx18 kc19 ks20 => r13 = some a0 ∧ r14 = some nx ∧ r15 = some nx ∧ x16 = nI c ∧ hp17 = cput g x0 P σ hp9 ∧ nx18 = nx10 ∧ kc19 = 1 ∧ ks20 = 2, ?_, fun e => ?_, fun e => ?_⟩
  rotate_left
  · obtain ⟨b', f', q1, q2, q3⟩ := h2
    rw [ch_R w9 (l9 _ _ h1) (r := some a1) rfl (by decide), ch_I w9 (l9 _ _ q1) rfl (by decide)]
    exact ⟨rfl, rfl, rfl, by rw [hcd (ew.mp e)], rfl, rfl, by omega, by omega⟩
  · have e1 : w = 1 := by rcases hw' with q | q; exact absurd (ew.mpr q) e; exact q
    rcases h3 with ⟨q, -⟩ | ⟨b2, a2, q1, q2, q3⟩
    · exact absurd q (hw1 e1)
    · obtain ⟨b', f', p1, p2, p3⟩ := q3
      rw [ch_R w9 (l9 _ _ h1) (r := r2) rfl (by decide), q2, ch_I w9 (l9 _ _ p1) rfl (by decide)]
      have : some b2 = some c := q1.symm.trans (hcx e1)
      cases this
      exact ⟨rfl, rfl, rfl, rfl, rfl, rfl, by omega, by omega⟩
  rintro r13 r14 r15 x16 hp17 nx18 kc19 ks20 ⟨rfl, rfl, rfl, rfl, rfl, rfl, rfl, rfl⟩
  refine ⟨by omega, by omega, ?_⟩
  refine c_x32 w9 u1 n9 u3 (by omega) ?_
  obtain ⟨hp10, e10⟩ : ∃ hp10, hp10 = va_up hp9 nx (some (.inr (32, [.int (nI c), va_rf (some b)]))) := ⟨_, rfl⟩
  rw [← e10]
  have l10 : hLe hp hp10 := by rw [e10]; exact l9.up2 u2
  have w10 : cW g x0 P hp10 := by rw [e10]; exact cW_hq u1 w9
  have n10 : hp10 nx = some (.inr (32, [.int (nI c), va_rf (some b)])) := by rw [e10, va_s]
  refine c_nw w10 (by omega) (by rw [zNn_31]; omega) (fun v1 v2 v3 v4 => ?_)
  have hne : nx18 ≠ nx := by omega
  have v2' : hp nx18 = none := by
    cases hq : hp nx18 with
    | none => rfl
    | some e => rw [l10 _ _ hq] at v2; cases v2
  obtain ⟨hp11, e11⟩ : ∃ hp11, hp11 = va_up hp10 nx18 (some (.inr (31, zNf 31))) := ⟨_, rfl⟩
  rw [← e11]
  have l11 : hLe hp hp11 := by rw [e11]; exact l10.up2 v2'
  have w11 : cW g x0 P hp11 := by rw [e11]; exact cW_hq v1 w10
  have n11 : hp11 nx = some (.inr (32, [.int (nI c), va_rf (some b)])) := by rw [e11, va_o (by omega), n10]
  have m11 : hp11 nx18 = some (.inr (31, [.int 0, .int 0, va_rf none, va_rf none])) := by rw [e11, va_s, zNf_31]
  intro nx25 kc26 ks27 ex25 ek26 es27
  rw [zNn_31] at es27
  rw [ch_I w11 (l11 _ _ h1) (x := nI L.1) rfl (by decide)]
  /- which axes -/
  obtain ⟨r53, r54, hr53, hr54⟩ : ∃ r53 r54 : Option Nat, r53 = (if nI w = 0 then some nx else some a1) ∧ r54 = (if nI w = 0 then r2 else some nx) := ⟨_, _, rfl, rfl⟩
  refine ⟨fun r32 r33 r34 x35 r36 r37 x38 x39 r40 hp41 nx42 kc43 ks44 => r32 = some a0 ∧ r33 = some nx ∧ r34 = some x0 ∧ x35 = nI t ∧ r36 = some nx18 ∧ r37 = some nx18 ∧ x38 = nI t ∧ x39 = nI L.1 ∧ r40 = r53 ∧ hp41 = cput g x0 P σ hp11 ∧ nx42 = nx25 ∧ kc43 = 2 ∧ ks44 = 6, ?_, fun e => ⟨rfl, rfl, rfl, rfl, rfl, rfl, rfl, rfl, by rw [hr53, if_pos e], rfl, rfl, by omega, by omega⟩, fun e => ?_⟩
  rotate_left
  · rw [ch_R w11 (l11 _ _ h1) (r := some a1) rfl (by decide)]
    exact ⟨rfl, rfl, rfl, rfl, rfl, rfl, rfl, rfl, by rw [hr53, if_neg e], rfl, rfl, by omega, by omega⟩
  rintro r32 r33 r34 x35 r36 r37 x38 x39 r40 hp41 nx42 kc43 ks44 ⟨rfl, rfl, rfl, rfl, rfl, rfl, rfl, rfl, rfl, rfl, rfl, rfl, rfl⟩
  refine ⟨fun r45 r46 r47 x48 r49 r50 x51 x52 r53' r54' hp55 nx56 kc57 ks58 => r47 = some x0 ∧ x48 = nI t ∧ r49 = some nx18 ∧ r50 = some nx18 ∧ x51 = nI t ∧ x52 = nI L.1 ∧ r53' = r40 ∧ r54' = r54 ∧ hp55 = cput g x0 P σ hp11 ∧ nx56 = nx42 ∧ kc57 = 2 ∧ ks58 = 6, ?_, fun e => ?_, fun e => ⟨rfl, rfl, rfl, rfl, rfl, rfl, rfl, by rw [hr54, if_neg e], rfl, rfl, rfl, rfl⟩⟩
  rotate_left
  · rw [ch_R w11 (l11 _ _ h1) (r := r2) rfl (by decide)]
    exact ⟨rfl, rfl, rfl, rfl, rfl, rfl, rfl, by rw [hr54, if_pos e], rfl, rfl, rfl, rfl⟩
  rintro r45 r46 r47 x48 r49 r50 x51 x52 r53' r54' hp55 nx56 kc57 ks58 ⟨rfl, rfl, rfl, rfl, rfl, rfl, rfl, rfl, rfl, rfl, rfl, rfl⟩
  refine ⟨by omega, by omega, ?_⟩
  refine c_x31 w11 v1 m11 v3 (by omega) ?_
  obtain ⟨hp12, e12⟩ : ∃ hp12, hp12 = va_up hp11 nx18 (some (.inr (31, [.int (nI t), .int (nI L.1), va_rf r53', va_rf r54']))) := ⟨_, rfl⟩
  rw [← e12]
  have l12 : hLe hp hp12 := by rw [e12]; exact l11.up2 v2'
  have w12 : cW g x0 P hp12 := by rw [e12]; exact cW_hq v1 w11
  have n12 : hp12 nx = some (.inr (32, [.int (nI c), va_rf (some b)])) := by rw [e12, va_o (by omega), n11]
  have m12 : hp12 nx18 = some (.inr (31, [.int (nI t), .int (nI L.1), va_rf r53', va_rf r54'])) := by rw [e12, va_s]
  have hax : cAx g hp12 nx c ns := ⟨b, f, n12, l12 _ _ hb, hf, hzb⟩
  have hLy : cLy g hp12 t (some nx18) (some (s_ax L w ns)) := by
    refine Or.inr ⟨nx18, _, rfl, rfl, ?_, ?_⟩
    · rcases hw' with rfl | rfl
      · rw [if_pos (show nI 0 = 0 from rfl)] at hr53 hr54
        refine ⟨nx, r2, by rw [m12, hr53, hr54]; rfl, ?_, ?_⟩
        · have := hcd rfl
          subst this
          exact hax
        · rcases h3 with q | ⟨b2, a2, q1, q2, q3⟩
          · exact Or.inl q
          · exact Or.inr ⟨b2, a2, q1, q2, q3.mo l12⟩
      · rw [if_neg (show ¬ nI 1 = 0 by decide)] at hr53 hr54
        refine ⟨a1, some nx, by rw [m12, hr53, hr54]; rfl, h2.mo l12, Or.inr ⟨c, nx, hcx rfl, rfl, hax⟩⟩
    · obtain ⟨k1, k2, k3, k4, k5⟩ := hTk
      rcases hw' with rfl | rfl
      · exact ⟨k1, k2, hn.1, hn.2, k5⟩
      · exact ⟨k1, k2, k3, k4, fun b2 hb2 => ⟨(k5 b2 hb2).1, (k5 b2 hb2).2.1, hn.1, hn.2⟩⟩
  have hL1 : (s_ax L w ns).1 = L.1 := by unfold s_ax; split <;> rfl
  refine ⟨244, 1468, by omega, by omega, ?_⟩
  rw [cz_o]
  refine c_lays hV (hI'.mo l12 w12) ht hLy (by omega) (by omega) (by omega) (fun x A' σ' hp' nx' z1 z2 z3 z4 => ?_)
  have hrk : ∃ rk, s_rk A.1.1 (s_up A.1.2.1 t (some (s_ax L w ns))) rk := by
    obtain ⟨⟨rk, hr⟩, -⟩ := hV
    exact ⟨rk, s_rk_sim hr hl hL1⟩
  refine ⟨fun _ _ _ x70 hp71 nx72 kc73 ks74 => x70 = (o_lay A t (s_ax L w ns)).1 ∧ kc73 = 246 ∧ ks74 = 1474 ∧ K x70 hp71 nx72, ?_, fun e => ?_, fun e => ?_⟩
  · rintro _ _ _ x70 hp71 nx72 kc73 ks74 ⟨-, rfl, rfl, q⟩
    exact ⟨by omega, by omega, q⟩
  · subst e
    rcases z4 with ⟨-, rfl, y1, y2⟩ | ⟨y, -⟩ | ⟨y, -⟩
    · have eo : o_lay A t (s_ax L w ns) = (nI (s_nc (s_ax L w ns)), (A.1.1, s_up A.1.2.1 t (some (s_ax L w ns)), A.1.2.2.1, A.1.2.2.2), A.2) := by unfold o_lay; rw [s_if_n y2]
      rw [eo] at hK ⊢
      have z1' := z1
      obtain ⟨p1, -, -, -, -, p6, -⟩ := z1
      obtain ⟨a9, p7, p8⟩ : ∃ a9, σ'.2.2.2.2.2.2.1 1 t = some a9 ∧ cTb g hp' a9 t (s_ax L w ns) := by
        rcases p6.1.2.2.2 t ht with ⟨q, -⟩ | ⟨a0, L', q1, q2, q3, q4⟩
        · have q' : s_up A.1.2.1 t (some (s_ax L w ns)) t = none := q
          rw [s_up_s] at q'; cases q'
        · have q' : s_up A.1.2.1 t (some (s_ax L w ns)) t = some L' := q1
          rw [s_up_s] at q'; cases q'; exact ⟨a0, q2, q3⟩
      rw [cg_tables, ca_tables]
      refine ⟨it, ?_⟩
      intro r82 e82
      rw [ct, p7] at e82
      subst e82
      have p9 := p8
      obtain ⟨_, _, p9, -⟩ := p9
      refine ⟨by omega, by omega, ?_⟩
      rw [ch_o p1 p9 (by decide)]
      refine c_cases (by omega) p1 p8 ⟨rfl, by omega, by omega, hK σ' hp' nx' z1' (l12.tr z2) (by omega)⟩
    · exact absurd y (by decide)
    · exact absurd y (by decide)
  · rcases z4 with ⟨y, -⟩ | ⟨-, -, y⟩ | ⟨rfl, rfl, -, y⟩
    · exact absurd y e
    · exact absurd hrk y
    · have eo : o_lay A' t (s_ax L w ns) = (-4, A') := by unfold o_lay; rw [s_if_p y]
      rw [eo] at hK ⊢
      exact ⟨rfl, by omega, by omega, hK σ' hp' nx' z1 (l12.tr z2) (by omega)⟩
end TB
