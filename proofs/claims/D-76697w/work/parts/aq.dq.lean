set_option maxRecDepth 100000
/-! what names what; the queue -/
section DQ
variable {l : Launch} {g : zG} {d x0 : Nat} {P : cP} {σ σ' : cS} {hp : zHp} {nx : Nat} {fm : sF} {ly : sY} {kd : Nat → Int32} {X : cX}
/-- the sheet as the component holds it, but for what is read -/
def cS0 (g : zG) (x0 : Nat) (P : cP) (hp : zHp) (X : cX) (fm : sF) (ly : sY) (kd : Nat → Int32) : Prop := (∀ c, c < 24 → X.2.2.1 0 c = some (P.1 c)) ∧ (∀ c, c < 24 → kd c = cKi (P.2.1 c)) ∧ (∀ c, c < 24 → cFm g x0 hp (X.2.2.2.2.2.2.1 c) (fm c)) ∧ (∀ t, t < 6 → cLy g hp t (X.2.2.1 1 t) (ly t))
theorem cSH.s0 (h : cSH g x0 P hp X fm ly kd) : cS0 g x0 P hp X fm ly kd := ⟨h.1, h.2.1, h.2.2.1, h.2.2.2.1⟩
theorem cS0.mo {hp' : zHp} (h : hLe hp hp') (z : cS0 g x0 P hp X fm ly kd) : cS0 g x0 P hp' X fm ly kd := ⟨z.1, z.2.1, fun c hc => (z.2.2.1 c hc).mo h, fun t ht => (z.2.2.2 t ht).mo h⟩
/-- marks are few and in range -/
def sMr (fm : sF) : Prop := s_mo fm ∧ ∀ c, c < 24 → (fm c).length ≤ 96
theorem s_at_in {ms : List sM} {t : Nat} : t ∈ s_at ms ↔ ∃ m ∈ ms, 300 ≤ m.1 ∧ m.1 % 10 = t := by
  unfold s_at
  simp only [List.mem_map, List.mem_filter, decide_eq_true_eq]
  constructor
  · rintro ⟨m, ⟨a, b⟩, c⟩; exact ⟨m, a, b, c⟩
  · rintro ⟨m, a, b, c⟩; exact ⟨m, ⟨a, b⟩, c⟩
theorem s_at_len {ms : List sM} : (s_at ms).length ≤ ms.length := by
  unfold s_at
  rw [List.length_map]
  exact List.length_filter_le _ _
def sNm (fm : sF) (ly : sY) (n m : Nat) : Prop := if n < 24 then (if m < 24 then ∃ k ∈ fm n, k.1 = m else ly (m - 24) ≠ none ∧ (m - 24) ∈ s_at (fm n)) else ∃ L, ly (n - 24) = some L ∧ L.1 = m
theorem c_asking {a t : Nat} {root nb as : Nat} {ms : List sM} (hW : cW g x0 P hp) (hI : cIc g hp) (ha : hp a = some (.inr (30, [.ref root, .ref nb, .ref as]))) (hA : cAs hp as (s_at ms)) (hm : ∀ m ∈ ms, 300 ≤ m.1 → m.1 % 10 < 6) (hlen : ms.length ≤ 96) (ht : t < 6) (hd : 6 ≤ d) {K : Int32 → zHp → Nat → Prop} (h1 : t ∈ s_at ms → K 1 (cput g x0 P σ hp) nx) (h0 : ¬ t ∈ s_at ms → K 0 (cput g x0 P σ hp) nx) : zMt l g yX30_isAsking cX30_isAsking 2 (some .boolean) d 0 0 [.ref a, .int (nI t)] (cput g x0 P σ hp) nx (zQi g K) := by
  obtain ⟨d, rfl⟩ := Nat.exists_eq_add_of_le' (show 1 ≤ d by omega)
  have hle : hLe hp (cput g x0 P σ hp) := fun q e z => cput_h hW z
  have hA' := hA.mo hle
  have hA2 := hA'
  obtain ⟨md, r, la, q1, -, -⟩ := hA2
  have hlen2 := Nat.le_trans (s_at_len (ms := ms)) hlen
  apply met_X30_isAsking
  unfold wp_X30_isAsking
  rw [ch_R hW ha (r := some as) rfl (by decide)]
  refine ⟨0, 0, Nat.le_refl _, Nat.le_refl _, ?_⟩
  refine j_val (by omega) (hI.mo hle) (by omega) (fun b hb => ?_)
  refine ⟨Nat.le_refl _, Nat.le_refl _, ?_⟩
  rw [hz_o q1 (by decide)]
  have h30 : ∀ t ∈ s_at ms, t < 30 := fun t z => by
    obtain ⟨m, m1, m2, m3⟩ := s_at_in.mp z
    have := hm m m1 m2
    omega
  refine j_contains hA' hb (by omega) h30 hlen2 (by omega) (fun z => ⟨Nat.le_refl _, Nat.le_refl _, Or.inr rfl, h1 z⟩) (fun z => ⟨Nat.le_refl _, Nat.le_refl _, Or.inl rfl, h0 z⟩)
theorem c_names {n m : Nat} (hW : cW g x0 P hp) (hI : cIc g hp) (hS : cS0 g x0 P hp σ.2.2.2.2 fm ly kd) (hM : sMr fm) (hn : n < 30) (hm : m < 30) (hd : 7 ≤ d) {K : Int32 → zHp → Nat → Prop} (h1 : sNm fm ly n m → K 1 (cput g x0 P σ hp) nx) (h0 : ¬ sNm fm ly n m → K 0 (cput g x0 P σ hp) nx) : zMt l g yX0_names cX0_names 4 (some .boolean) d 0 0 [.ref x0, .int (nI n), .int (nI m)] (cput g x0 P σ hp) nx (zQi g K) := by
  obtain ⟨d, rfl⟩ := Nat.exists_eq_add_of_le' (show 1 ≤ d by omega)
  have le0 : 0 ≤ 0 := Nat.le_refl 0
  apply met_X0_names
  unfold wp_X0_names
  refine pk_lt n 24 (fun n24 => ?_) (fun n24 => ?_)
  · have cn : (nI n).toNatClampNeg = n := nI_clamp (by omega)
    rw [cg_cells, ca_cells]
    refine ⟨vp_in_nI n24 (by decide), ?_⟩
    intro r8 e8
    have e8 : r8 = some (P.1 n) := by rw [e8, cn]; exact hS.1 n n24
    subst e8
    rw [cc_f hW n24]
    rcases hS.2.2.1 n n24 with ⟨q1, q2⟩ | ⟨a, root, nb, as, k, q1, q2, q3, q4, q5, ⟨w, w1, w2⟩, q7⟩
    · refine ⟨fun _ => ⟨le0, le0, h0 ?_⟩, fun z => absurd q2 z⟩
      unfold sNm
      rw [if_pos n24, q1]
      split
      · rintro ⟨k, hk, _⟩; cases hk
      · rintro ⟨_, hk⟩; cases hk
    · have q2 : σ.2.2.2.2.2.2.2.2.2.2.1 n = some a := q2
      rw [q2]
      refine ⟨fun z => (by cases z), fun _ => ?_⟩
      refine ⟨fun r x hp1 nx1 kc ks => ((x = 1 ∧ sNm fm ly n m) ∨ (x = 0 ∧ ¬ sNm fm ly n m)) ∧ hp1 = cput g x0 P σ hp ∧ nx = nx1 ∧ kc = 0 ∧ ks = 0, ?_, ?_⟩
      · rintro r x hp1 nx1 kc ks ⟨hx, rfl, rfl, rfl, rfl⟩
        rcases hx with ⟨rfl, z⟩ | ⟨rfl, z⟩
        · exact ⟨le0, le0, Or.inr rfl, h1 z⟩
        · exact ⟨le0, le0, Or.inl rfl, h0 z⟩
      refine pk_le 24 m (fun m24 => ?_) (fun m24 => ?_)
      · rw [cg_tables, ca_tables, show nI m - (24 : Int32) = nI (m - 24) from pk_sub (b := 24) m24]
        refine ⟨vp_in_nI (by omega) (by decide), ?_⟩
        intro r26 e26
        rw [nI_clamp (by omega)] at e26
        have enm : sNm fm ly n m ↔ ly (m - 24) ≠ none ∧ (m - 24) ∈ s_at (fm n) := by unfold sNm; rw [if_pos n24, if_neg (by omega)]
        have hly := hS.2.2.2 (m - 24) (by omega)
        have ely : r26 = none ↔ ly (m - 24) = none := by
          rcases hly with ⟨y1, y2⟩ | ⟨a', L, y1, y2, -⟩
          · rw [e26]; exact ⟨fun _ => y1, fun _ => y2⟩
          · rw [e26, y1]
            exact ⟨fun z => (by have := y2.symm.trans z; cases this), fun z => (by cases z)⟩
        refine ⟨fun r hp1 nx1 kc ks => ¬ sNm fm ly n m ∧ hp1 = cput g x0 P σ hp ∧ nx = nx1 ∧ kc = 0 ∧ ks = 0, ?_, fun z => ?_, fun z => ?_⟩
        · rintro r hp1 nx1 kc ks ⟨z, rfl, rfl, rfl, rfl⟩
          exact ⟨Or.inr ⟨rfl, z⟩, rfl, rfl, rfl, rfl⟩
        · exact ⟨fun y => (enm.mp y).1 (ely.mp z), rfl, rfl, rfl, rfl⟩
        · refine ⟨0, 0, le0, le0, ?_⟩
          rw [ch_o hW q3 (by decide)]
          refine c_asking hW hI q3 q7 (fun k hk => hM.1 n n24 k hk) (hM.2 n n24) (by omega) (by omega) (fun y => ⟨fun w => absurd w (by decide), fun _ => ⟨Or.inl ⟨rfl, enm.mpr ⟨fun w => z (ely.mpr w), y⟩⟩, rfl, rfl, rfl, rfl⟩⟩) (fun y => ⟨fun _ => ⟨fun w => y (enm.mp w).2, rfl, rfl, rfl, rfl⟩, fun w => absurd rfl w⟩)
      · rw [ch_R hW q3 (r := some nb) rfl (by decide)]
        refine ⟨le0, le0, ?_⟩
        have hle : hLe hp (cput g x0 P σ hp) := fun q e z => cput_h hW z
        have w1' := w1.mo hle
        have w3 := w1'
        obtain ⟨b, f, y1, -⟩ := w3
        rw [hz_o y1 (by decide)]
        have enm : sNm fm ly n m ↔ lb w m = true := by
          unfold sNm; rw [if_pos n24, if_pos m24, w2 m (by omega)]
          exact ⟨fun ⟨k, a, b⟩ => ⟨m24, k, a, b⟩, fun ⟨_, k, a, b⟩ => ⟨k, a, b⟩⟩
        exact b_get (by omega) w1' (by omega) (fun z => ⟨Or.inl ⟨rfl, enm.mpr z⟩, rfl, rfl, rfl, rfl⟩) (fun z => ⟨Or.inr ⟨rfl, fun y => by rw [enm.mp y] at z; cases z⟩, rfl, rfl, rfl, rfl⟩)
  · have hly := hS.2.2.2 (n - 24) (by omega)
    have enm : sNm fm ly n m ↔ ∃ L, ly (n - 24) = some L ∧ L.1 = m := by unfold sNm; rw [if_neg (by omega)]
    have e24 : nI n - (24 : Int32) = nI (n - 24) := pk_sub (b := 24) n24
    have i24 : vp_in (nI (n - 24)) 6 := vp_in_nI (by omega) (by decide)
    have c24 : (nI (n - 24)).toNatClampNeg = n - 24 := nI_clamp (by omega)
    rw [cg_tables, ca_tables, e24]
    refine ⟨i24, ?_⟩
    intro r57 e57
    rw [c24] at e57
    refine ⟨fun x hp1 nx1 kc ks => ((x = 1 ∧ sNm fm ly n m) ∨ (x = 0 ∧ ¬ sNm fm ly n m)) ∧ hp1 = cput g x0 P σ hp ∧ nx = nx1 ∧ kc = 0 ∧ ks = 0, ?_, ?_⟩
    · rintro x hp1 nx1 kc ks ⟨hx, rfl, rfl, rfl, rfl⟩
      rcases hx with ⟨rfl, z⟩ | ⟨rfl, z⟩
      · exact ⟨le0, le0, Or.inr rfl, h1 z⟩
      · exact ⟨le0, le0, Or.inl rfl, h0 z⟩
    refine ⟨fun hp1 nx1 kc ks => ¬ sNm fm ly n m ∧ hp1 = cput g x0 P σ hp ∧ nx = nx1 ∧ kc = 0 ∧ ks = 0, ?_, fun z => ?_, fun z => ?_⟩
    · rintro hp1 nx1 kc ks ⟨z, rfl, rfl, rfl, rfl⟩
      exact ⟨Or.inr ⟨rfl, z⟩, rfl, rfl, rfl, rfl⟩
    · refine ⟨fun y => ?_, rfl, rfl, rfl, rfl⟩
      obtain ⟨L, y1, y2⟩ := enm.mp y
      rcases hly with ⟨w1, w2⟩ | ⟨a', L', w1, w2, -⟩
      · rw [y1] at w1; cases w1
      · rw [e57] at z; have := w2.symm.trans z; cases this
    · rcases hly with ⟨w1, w2⟩ | ⟨a, L, w1, w2, w3, -⟩
      · rw [e57] at z; exact absurd w2 z
      have e57' : r57 = some a := e57.trans w2
      rw [cg_tables, ca_tables]
      refine ⟨i24, ?_⟩
      intro r74 e74
      rw [c24] at e74
      have e74 : r74 = some a := e74.trans w2
      obtain ⟨a1, r2, t1, -⟩ := w3
      rw [e74, ch_I hW t1 (k := 1) (x := nI L.1) rfl (by decide)]
      have hL : L.1 < 2 ^ 31 := by
        rcases hS.2.2.2 (n - 24) (by omega) with ⟨y1, -⟩ | ⟨a', L', y1, -, -, y4⟩
        · rw [w1] at y1; cases y1
        · rw [w1] at y1; cases y1; have := y4.1; omega
      refine ⟨fun y => ⟨Or.inl ⟨rfl, enm.mpr ⟨L, w1, (nI_eq hL (by omega)).mp y⟩⟩, rfl, rfl, rfl, rfl⟩, fun y => ⟨fun w => ?_, rfl, rfl, rfl, rfl⟩⟩
      obtain ⟨L', y1, y2⟩ := enm.mp w
      rw [w1] at y1
      cases y1
      exact y (by rw [y2])
/-- the queue -/
def cDq (hp : zHp) (Q : (Nat → Option Nat) × Int32 × Int32) (h : Nat) (qs : List Nat) : Prop := Q.2.1 = nI h ∧ Q.2.2 = nI (h + qs.length) ∧ h + qs.length ≤ 30 ∧ ∀ i n, qs[i]? = some n → ∃ b, Q.1 (h + i) = some b ∧ hp b = some (.inr (41, [.int (nI n)]))
def cDw (Q : (Nat → Option Nat) × Int32 × Int32) : Prop := ∃ h t, Q.2.1 = nI h ∧ Q.2.2 = nI t ∧ h ≤ t ∧ t ≤ 30
theorem cDq.w {Q : (Nat → Option Nat) × Int32 × Int32} {h : Nat} {qs : List Nat} (z : cDq hp Q h qs) : cDw Q := ⟨h, h + qs.length, z.1, z.2.1, by omega, z.2.2.1⟩
theorem cDq.mo {hp' : zHp} (hl : hLe hp hp') {Q : (Nat → Option Nat) × Int32 × Int32} {h : Nat} {qs : List Nat} (z : cDq hp Q h qs) : cDq hp' Q h qs := ⟨z.1, z.2.1, z.2.2.1, fun i n q => by obtain ⟨b, b1, b2⟩ := z.2.2.2 i n q; exact ⟨b, b1, hl _ _ b2⟩⟩
theorem kQQ {Q Q' : (Nat → Option Nat) × Int32 × Int32} : cuQ (cuQ σ Q) Q' = cuQ σ Q' := rfl
theorem kQ5 {Q : (Nat → Option Nat) × Int32 × Int32} : (cuQ σ Q).2.2.2.2.2.2.2.2.1 = Q := rfl
theorem cq_p1 {v : Int32} {K : zHp → Prop} : zpt g (cput g x0 P σ hp) (some (x0 + 24)) [35] 1 (.int v) K = (zB g ≤ x0 + 24 ∧ K (cput g x0 P (cuQ σ (σ.2.2.2.2.2.2.2.2.1.1, v, σ.2.2.2.2.2.2.2.2.1.2.2)) hp)) := by
  rw [hz_p cput_q (by decide) (show 1 < 3 by decide)]
  show (zB g ≤ x0 + 24 ∧ K (va_up (cput g x0 P σ hp) (x0 + 24) (some (.inr (35, [.ref (x0 + 25), .int v, .int σ.2.2.2.2.2.2.2.2.1.2.2]))))) = _
  rw [cq_u]
theorem cq_p2 {v : Int32} {K : zHp → Prop} : zpt g (cput g x0 P σ hp) (some (x0 + 24)) [35] 2 (.int v) K = (zB g ≤ x0 + 24 ∧ K (cput g x0 P (cuQ σ (σ.2.2.2.2.2.2.2.2.1.1, σ.2.2.2.2.2.2.2.2.1.2.1, v)) hp)) := by
  rw [hz_p cput_q (by decide) (show 2 < 3 by decide)]
  show (zB g ≤ x0 + 24 ∧ K (va_up (cput g x0 P σ hp) (x0 + 24) (some (.inr (35, [.ref (x0 + 25), .int σ.2.2.2.2.2.2.2.2.1.2.1, .int v]))))) = _
  rw [cq_u]
theorem cq_h {K : Int32 → Prop} : zgI (cput g x0 P σ hp) (some (x0 + 24)) [35] 1 K = K σ.2.2.2.2.2.2.2.2.1.2.1 := hz_I cput_q rfl (by decide)
theorem cq_t {K : Int32 → Prop} : zgI (cput g x0 P σ hp) (some (x0 + 24)) [35] 2 K = K σ.2.2.2.2.2.2.2.2.1.2.2 := hz_I cput_q rfl (by decide)
theorem cq_r {K : Option Nat → Prop} : zgR (cput g x0 P σ hp) (some (x0 + 24)) [35] 0 K = K (some (x0 + 25)) := hz_R cput_q (r := some (x0 + 25)) rfl (by decide)
theorem cq_a {K : Nat → Nat → (Nat → Option Nat) → Prop} : zaR (g.2.1 13) (cput g x0 P σ hp) (some (x0 + 25)) K = K (x0 + 25) 33 σ.2.2.2.2.2.2.2.2.1.1 := hz_aR cput_e
theorem c_qclear (hW : cW g x0 P hp) (hQ : cDw σ.2.2.2.2.2.2.2.2.1) (hd : 2 ≤ d) {K : zHp → Nat → Prop} (hK : ∀ f, K (cput g x0 P (cuQ σ (f, 0, 0)) hp) nx) : zMt l g yJ17_clear cJ17_clear 1 none d 0 0 [.ref (x0 + 24)] (cput g x0 P σ hp) nx (zQv g K) := by
  obtain ⟨d, rfl⟩ := Nat.exists_eq_add_of_le' (show 2 ≤ d by omega)
  obtain ⟨h, t, q1, q2, q3, q4⟩ := hQ
  have zA : ∀ q, zB g ≤ x0 + q := fun q => by have := hW.1; omega
  apply met_J17_clear
  unfold wp_J17_clear
  rw [cq_r, cq_h, cq_t, q1, q2]
  apply met_J17_circularClear
  unfold wp_J17_circularClear
  refine ⟨fun x y hp1 => x = nI h ∧ y = nI t ∧ hp1 = cput g x0 P σ hp, ?_, fun z => absurd z (nI_nlt q3 (by omega)), fun _ => ⟨rfl, rfl, rfl⟩⟩
  rintro x y hp1 ⟨rfl, rfl, rfl⟩
  refine ⟨fun n x y hp1 => ∃ k f, n + k = t ∧ x = nI k ∧ y = nI t ∧ hp1 = cput g x0 P (cuQ σ (f, nI h, nI t)) hp, ⟨t - h, h, σ.2.2.2.2.2.2.2.2.1.1, by omega, rfl, rfl, ?_⟩, ?_⟩
  · rw [← q1, ← q2]; rfl
  rintro n x y hp1 ⟨k, f, hk, rfl, rfl, rfl⟩
  refine pk_le t k (fun z => ?_) (fun z => ?_)
  · refine ⟨fun _ => ?_, fun w => absurd rfl w⟩
    show zpt g _ (some (x0 + 24)) [35] 2 _ _
    rw [cq_p2]
    refine ⟨zA _, ?_⟩
    rw [cq_p1]
    exact ⟨zA _, hK f⟩
  · rw [cq_a]
    refine ⟨vp_in_nI (by omega) (by decide), zA _, fun a e => (by cases e), ?_⟩
    intro hp1 e1
    rw [cq_e, nI_clamp (by omega)] at e1
    subst e1
    rintro x13 rfl
    exact ⟨n - 1, by omega, k + 1, _, by omega, (nI_succ k).symm, rfl, rfl⟩
theorem c_qinc {k : Nat} (hk : k + 1 < 33) (hd : 1 ≤ d) {K : Int32 → zHp → Nat → Prop} {hpx : zHp} (hK : K (nI (k + 1)) hpx nx) : zMt l g yJ17_inc cJ17_inc 2 (some .int) d 0 0 [.int (nI k), .int 33] hpx nx (zQi g K) := by
  obtain ⟨d, rfl⟩ := Nat.exists_eq_add_of_le' (show 1 ≤ d by omega)
  apply met_J17_inc
  unfold wp_J17_inc
  rintro x1 rfl
  rw [nI_1]
  exact ⟨fun x => x = nI (k + 1), fun x e => by rw [e]; exact hK, fun _ => rfl, fun z => absurd (show nI (k + 1) < nI 33 from nI_lt hk (by decide)) z⟩
theorem c_qadd {b n h : Nat} {qs : List Nat} (hW : cW g x0 P hp) (hQ : cDq hp σ.2.2.2.2.2.2.2.2.1 h qs) (hl : h + qs.length < 30) (hb : hp b = some (.inr (41, [.int (nI n)]))) (hd : 2 ≤ d) {K : zHp → Nat → Prop} (hK : ∀ Q, cDq hp Q h (qs ++ [n]) → K (cput g x0 P (cuQ σ Q) hp) nx) : zMt l g yJ17_addLast cJ17_addLast 3 none d 0 0 [.ref (x0 + 24), va_rf (some b)] (cput g x0 P σ hp) nx (zQv g K) := by
  obtain ⟨d, rfl⟩ := Nat.exists_eq_add_of_le' (show 1 ≤ d by omega)
  obtain ⟨q1, q2, q3, q4⟩ := hQ
  have zA : ∀ q, zB g ≤ x0 + q := fun q => by have := hW.1; omega
  apply met_J17_addLast
  unfold wp_J17_addLast
  refine ⟨fun z => (by cases z), fun _ => ?_⟩
  rw [cq_r, cq_t, q2, cq_a]
  refine ⟨vp_in_nI (by omega) (by decide), zA _, fun a e => ?_, ?_⟩
  · cases e; exact ⟨41, _, cput_h hW hb, by decide⟩
  intro hp1 e1
  rw [cq_e, nI_clamp (by omega)] at e1
  subst e1
  rw [cq_h, cq_t, hz_ln cput_e]
  refine ⟨Nat.le_refl _, Nat.le_refl _, ?_⟩
  rw [kQ5]
  show zMt l g yJ17_inc cJ17_inc 2 (some .int) d 0 0 [.int σ.2.2.2.2.2.2.2.2.1.2.2, .int 33] _ nx _
  rw [q2]
  refine c_qinc (by omega) (by omega) ?_
  rw [cq_p2]
  refine ⟨zA _, ?_⟩
  refine ⟨_, fun _ _ _ _ _ h => h, ?_⟩
  have hne : ¬ σ.2.2.2.2.2.2.2.2.1.2.1 = nI (h + qs.length + 1) := by
    rw [q1, nI_eq (by omega) (by omega)]; omega
  refine ⟨fun z => absurd z hne, fun _ => ⟨Nat.le_refl _, Nat.le_refl _, hK _ ⟨q1, ?_, ?_, fun i m hi => ?_⟩⟩⟩
  · show nI (h + qs.length + 1) = _
    rw [List.length_append]; rfl
  · rw [List.length_append, List.length_singleton]; omega
  · show ∃ b', va_up σ.2.2.2.2.2.2.2.2.1.1 (h + qs.length) (some b) (h + i) = some b' ∧ _
    by_cases e : i = qs.length
    · subst e
      rw [List.getElem?_append_right (Nat.le_refl _), Nat.sub_self] at hi
      simp at hi
      subst hi
      exact ⟨b, va_s, hb⟩
    · have hi2 : i < qs.length := by
        by_cases w : i < qs.length
        · exact w
        · have : qs.length < i := by omega
          rw [List.getElem?_append_right (by omega), List.getElem?_eq_none (by simp; omega)] at hi
          cases hi
      rw [List.getElem?_append_left hi2] at hi
      rw [va_o (by omega)]
      exact q4 i m hi
theorem c_qempty {h : Nat} {qs : List Nat} (hQ : cDq hp σ.2.2.2.2.2.2.2.2.1 h qs) (hd : 1 ≤ d) {K : Int32 → zHp → Nat → Prop} (h1 : qs = [] → K 1 (cput g x0 P σ hp) nx) (h0 : qs ≠ [] → K 0 (cput g x0 P σ hp) nx) : zMt l g yJ17_isEmpty cJ17_isEmpty 1 (some .boolean) d 0 0 [.ref (x0 + 24)] (cput g x0 P σ hp) nx (zQi g K) := by
  obtain ⟨d, rfl⟩ := Nat.exists_eq_add_of_le' (show 1 ≤ d by omega)
  obtain ⟨q1, q2, q3, -⟩ := hQ
  apply met_J17_isEmpty
  unfold wp_J17_isEmpty
  rw [cq_h, cq_t, q1, q2]
  refine ⟨_, fun _ h => h, ?_⟩
  refine pk_eq h (h + qs.length) (fun z => ⟨Or.inr rfl, h1 (List.eq_nil_of_length_eq_zero (by omega))⟩) (fun z => ⟨Or.inl rfl, h0 (fun e => z (by rw [e]; rfl))⟩)
theorem c_qpoll {n h : Nat} {qs : List Nat} (hW : cW g x0 P hp) (hQ : cDq hp σ.2.2.2.2.2.2.2.2.1 h (n :: qs)) (hd : 2 ≤ d) {K : Option Nat → zHp → Nat → Prop} (hK : ∀ b Q, hp b = some (.inr (41, [.int (nI n)])) → cDq hp Q (h + 1) qs → K (some b) (cput g x0 P (cuQ σ Q) hp) nx) : zMt l g yJ17_pollFirst cJ17_pollFirst 4 (some (.object "java/lang/Object")) d 0 0 [.ref (x0 + 24)] (cput g x0 P σ hp) nx (zQq g K) := by
  obtain ⟨d, rfl⟩ := Nat.exists_eq_add_of_le' (show 2 ≤ d by omega)
  obtain ⟨q1, q2, q3, q4⟩ := hQ
  rw [List.length_cons] at q2 q3
  obtain ⟨b, b1, b2⟩ := q4 0 n rfl
  have zA : ∀ q, zB g ≤ x0 + q := fun q => by have := hW.1; omega
  have ih : vp_in (nI h) 33 := vp_in_nI (by omega) (by decide)
  have ch : (nI h).toNatClampNeg = h := nI_clamp (by omega)
  apply met_J17_pollFirst
  unfold wp_J17_pollFirst
  rw [cq_r, cq_h, q1]
  apply met_J17_elementAt
  unfold wp_J17_elementAt
  rw [cq_a]
  refine ⟨ih, ?_⟩
  intro r4 e4
  have e4 : r4 = some b := by rw [e4, ch]; exact b1
  subst e4
  refine ⟨_, fun _ _ _ _ _ h => h, ?_⟩
  refine ⟨fun z => (by cases z), fun _ => ?_⟩
  rw [cq_a]
  refine ⟨ih, zA _, fun a e => (by cases e), ?_⟩
  intro hp1 e1
  rw [cq_e, ch] at e1
  subst e1
  rw [hz_ln cput_e]
  refine c_qinc (by omega) (by omega) ?_
  rw [cq_p1]
  refine ⟨zA _, hK b _ b2 ⟨rfl, ?_, by omega, fun i m hi => ?_⟩⟩
  · show σ.2.2.2.2.2.2.2.2.1.2.2 = _
    rw [q2]; congr 1; omega
  · show ∃ b', va_up σ.2.2.2.2.2.2.2.2.1.1 h none (h + 1 + i) = some b' ∧ _
    rw [va_o (by omega)]
    have := q4 (i + 1) m hi
    rw [show h + 1 + i = h + (i + 1) by omega]
    exact this
end DQ
