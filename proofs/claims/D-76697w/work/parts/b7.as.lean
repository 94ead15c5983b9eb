set_option maxRecDepth 100000
/-! asks -/
section AS7
variable {l : Launch} {g : zG} {d x0 : Nat} {P : cP} {σ σ' : cS} {hp hp' : zHp} {nx M M' : Nat} {A : sV} {S : sSt} {fm : sF} {ly : sY} {kd : Nat → Int32} {mc ms kc ks : Nat}
theorem cINV.ad (h : cINV g x0 P hp σ A M) (e1 : σ'.1 = σ.1) (e2 : σ'.2.1 = σ.2.1) (e3 : σ'.2.2.1 = σ.2.2.1) (e4 : σ'.2.2.2.1 = σ.2.2.2.1) (hA : ∀ k, (k = 13 ∨ k = 14 ∨ k = 15 ∨ k = 19 ∨ k = 24) → σ'.2.2.2.2.1 k = σ.2.2.2.2.1 k) (hD : σ'.2.2.2.2.2.1 25 = σ.2.2.2.2.2.1 25) (hX : σ'.2.2.2.2.2.2 = σ.2.2.2.2.2.2) : cINV g x0 P hp σ' A M := by
  obtain ⟨i1, i2, i3, i4, i5, ⟨j1, j2, j3, j4⟩, i7, i8, i9, i10⟩ := h
  refine ⟨i1, i2, e2.trans i3, ?_, ?_, ⟨?_, fun q hq => ?_, by rw [e4]; exact j3, by rw [e4]; exact j4⟩, ?_, ?_, ?_, ?_⟩
  · unfold cBk at i4 ⊢; rw [hX]; exact i4
  · rw [hX]; exact i5
  · unfold cS0 at j1 ⊢; rw [hX]; exact j1
  · have := j2 q hq
    unfold cWg cKc cKt at this ⊢
    rw [hX, hA 13 (by decide), hA 14 (by decide), hA 15 (by decide)]
    exact this
  · unfold cIm at i7 ⊢
    rw [e1, hX, hA 24 (by decide), hD]
    exact i7
  · unfold cTp at i8 ⊢
    rw [e1, hA 19 (by decide)]
    exact i8
  · unfold cRw at i9 ⊢; rw [hX]; exact i9
  · unfold cSt at i10 ⊢; rw [e3]; exact i10
theorem kD_o {k j : Nat} {f : Nat → UInt64} (h : j ≠ k) : (cuD σ k f).2.2.2.2.2.1 j = σ.2.2.2.2.2.1 j := by unfold cuD cuX; exact va_o h
theorem kD_s {k : Nat} {f : Nat → UInt64} : (cuD σ k f).2.2.2.2.2.1 k = f := by unfold cuD cuX; exact va_s
theorem kDA {k j : Nat} {f f' : Nat → UInt64} {h : Nat → Int32} : cuD (cuA (cuD σ k f) j h) k f' = cuA (cuD σ k f') j h := by
  unfold cuD cuA cuX
  simp only [cva_uu]
theorem c_unlike {a c : Nat} {ns : List UInt64} (hI : cINV g x0 P hp σ A M) (hc : c < 24) (hA : cAx g hp a c ns) (hn : ns.length ≤ 8) (hB : ∀ v ∈ ns, s_B v) (hd : 10 ≤ d) {K : Int32 → zHp → Nat → Prop} (hK : ∀ σ', cINV g x0 P hp σ' A M → K (nI (s_ul (A.1.2.2.1 c) ns)) (cput g x0 P σ' hp) nx) : zMt l g yX0_unlike cX0_unlike 2 (some .int) d 0 0 [.ref x0, va_rf (some a)] (cput g x0 P σ hp) nx (zQi g K) := by
  obtain ⟨d, rfl⟩ := Nat.exists_eq_add_of_le' (show 1 ≤ d by omega)
  have hI' := hI
  obtain ⟨i1, i2, i3, i4, i5, i6, i7⟩ := hI
  have hB0 := i1.1
  obtain ⟨nb, fn, a1, a2, a3, -⟩ := hA
  apply met_X0_unlike
  unfold wp_X0_unlike
  refine ⟨fun x h n => K x h n, fun _ _ _ h => h, fun z => (by cases z), fun _ => ?_⟩
  rw [cg_cells, ch_I i1 a1 (x := nI c) rfl (by decide), ca_cells]
  refine ⟨vp_in_nI hc (by decide), ?_⟩
  intro r er
  rw [nI_clamp (by omega), show σ.2.2.2.2.2.2.1 0 c = some (P.1 c) from i6.1.1 c hc] at er
  subst er
  rw [cg_plainNumbers, cg_plainFirsts]
  have e0 : cput g x0 P σ hp = (fun f h => cput g x0 P (cuA (cuD σ 21 f) 22 h) hp) (σ.2.2.2.2.2.1 21) (σ.2.2.2.2.1 22) := by
    show _ = cput g x0 P (cuA (cuD σ 21 _) 22 _) hp
    unfold cuA cuD cuX
    simp only [cva_id]
  rw [e0]
  refine c_keeps (H := fun f h => cput g x0 P (cuA (cuD σ 21 f) 22 h) hp) (c := c) (nb := nb) (fn := fn) (ci := P.2.1 c) (by omega) ⟨by omega, by omega, fun f h => ?_, fun f h => ?_, fun f h f' => ?_, fun f h h' => ?_⟩ hn hB (fun f h => cput_h i1 a1) (fun f h => cput_h i1 a2) a3 (fun f h => ⟨_, cput_c i1 hc⟩) (i1.2.2.1 c hc).2.2.2 (fun f h _ => ?_)
  · dsimp only
    rw [cput_x (q := 27) (c := (2, 21, 0, 1, 8)) rfl (by decide)]
    show (some (.inl (g.2.1 1, 8, .inr (.inr (.inr (.inl ((cuD σ 21 f).2.2.2.2.2.1 21)))))) : Option va_E) = _
    rw [kD_s]
  · dsimp only
    rw [cput_x (q := 28) (c := (1, 22, 0, 2, 8)) rfl (by decide)]
    show (some (.inl (g.2.1 2, 8, .inl ((cuA (cuD σ 21 f) 22 h).2.2.2.2.1 22))) : Option va_E) = _
    rw [kA_s]
  · dsimp only
    rw [cu_plainNumbers, kDA]
  · dsimp only
    rw [cu_plainFirsts, kAA]
  · dsimp only
    rw [← i6.1.2.1 c hc]
    refine hK _ (hI'.ad rfl rfl rfl rfl (fun k hk => ?_) ?_ rfl)
    · rw [kA_o (by omega)]; rfl
    · show (cuD σ 21 f).2.2.2.2.2.1 25 = _
      rw [kD_o (by decide)]
/-- what a table's axes move -/
theorem c_slice {a t : Nat} {L : sL} (hV : sOK A.1) (hI : cINV g x0 P hp σ A M) (hl : A.1.2.1 t = some L) (hTb : cTb g hp a t L) (hTk : cTk L) (hd : 6 ≤ d) {K : Int32 → zHp → Nat → Prop} (hK : K (s_ms (s_sl A.1 L) 24) (cput g x0 P σ hp) nx) : zMt l g yX0_slice cX0_slice 6 (some .int) d 0 0 [.ref x0, va_rf (some a)] (cput g x0 P σ hp) nx (zQi g K) := by
  obtain ⟨d, rfl⟩ := Nat.exists_eq_add_of_le' (show 1 ≤ d by omega)
  obtain ⟨rk, hST⟩ := hV.st
  obtain ⟨i1, i2, i3, i4, i5, i6, i7⟩ := hI
  obtain ⟨a1, r2, q1, q2, q3⟩ := hTb
  obtain ⟨b1, f1, p1, p2, p3⟩ := q2
  have hLc := hTk.1
  have cL : (nI L.1).toNatClampNeg = L.1 := nI_clamp (by omega)
  have hwL := ((i6.2.1 L.1 (by omega)).1 hLc).1.1
  have h24 : ∀ x, s_RE A.1.1 L.1 x → x < 24 := fun x h => s_RE_lt hST.1 hST.2.2.1 hLc h
  apply met_X0_slice
  unfold wp_X0_slice
  rw [cg_reached, ch_I i1 q1 (x := nI L.1) rfl (by decide), ca_reached]
  refine ⟨vp_in_nI hLc (by decide), ?_⟩
  intro r12 e12
  rw [cL] at e12
  subst e12
  rw [hz_o (cput_b (show L.1 < 49 by omega)) (by decide)]
  have st : ∀ i, i ≤ 24 → ∀ PP : Int32 → zHp → Nat → Prop, (∀ x, ((∃ k, i ≤ k ∧ k < 24 ∧ s_RE A.1.1 L.1 k ∧ x = nI k ∧ s_ms (s_sl A.1 L) k = s_ms (s_sl A.1 L) i) ∨ (x = -1 ∧ s_ms (s_sl A.1 L) 24 = s_ms (s_sl A.1 L) i)) → PP x (cput g x0 P σ hp) nx) → zMt l g yJ0_nextSetBit cJ0_nextSetBit 5 (some .int) d 0 0 [.ref (x0 + cBA L.1), .int (nI i)] (cput g x0 P σ hp) nx (zQi g PP) := by
    intro i hi PP hx
    exact c_bnext (by omega) hwL h24 hi (by omega) (fun k k1 k2 k3 k4 => hx _ (Or.inl ⟨k, k1, k2, k3, rfl, s_ms_gap k1 (fun q y1 y2 y3 => k4 q y1 y2 y3.1)⟩)) (fun z => hx _ (Or.inr ⟨rfl, s_ms_gap hi (fun q y1 y2 y3 => z q y1 y2 y3.1)⟩))
  refine st 0 (by omega) _ (fun x hx => ?_)
  refine ⟨fun n s r y hp1 nx1 => ((∃ k, n = 25 - k ∧ k < 24 ∧ s_RE A.1.1 L.1 k ∧ y = nI k ∧ s = s_ms (s_sl A.1 L) k) ∨ (n = 0 ∧ y = -1 ∧ s = s_ms (s_sl A.1 L) 24)) ∧ r = some (x0 + cBA L.1) ∧ hp1 = cput g x0 P σ hp ∧ nx = nx1, ?_, ?_⟩
  · rcases hx with ⟨k, -, k2, k3, rfl, k5⟩ | ⟨rfl, k5⟩
    · exact ⟨25 - k, Or.inl ⟨k, rfl, k2, k3, rfl, by rw [k5]; rfl⟩, rfl, rfl, rfl⟩
    · exact ⟨0, Or.inr ⟨rfl, rfl, by rw [k5]; rfl⟩, rfl, rfl, rfl⟩
  rintro n s r y hp1 nx1 ⟨hy, rfl, rfl, rfl⟩
  rcases hy with ⟨k, rfl, k2, k3, rfl, rfl⟩ | ⟨rfl, rfl, rfl⟩
  rotate_left
  · exact ⟨fun _ => hK, fun z => absurd (by decide) z⟩
  refine ⟨fun z => absurd z (nI_pos (by omega)), fun _ => ?_⟩
  have ck : (nI k).toNatClampNeg = k := nI_clamp (by omega)
  have ik : vp_in (nI k) 24 := vp_in_nI k2 (by decide)
  have hwk := ((i6.2.1 k (by omega)).1 k2).1.2
  have hbk := c_bo (σ := σ) (x0 := x0) (g := g) (P := P) (hp := hp) (show 24 + k < 49 by omega) hwk
  have hrd : ∀ x, x < 24 → (lb ((σ.2.2.2.2.2.2.2.1 (24 + k)).1 0) x = true ↔ s_RD A.1.1 A.1.2.1 k x) := fun x hx => hwk.2 x (by omega)
  have hin : L.2.1 < 24 := hTk.2.1
  rw [cg_reads, ca_reads]
  refine ⟨ik, ?_⟩
  intro r29 e29
  rw [ck] at e29
  subst e29
  rw [ch_R i1 q1 (k := 2) (r := some a1) rfl (by decide), ch_I i1 p1 (x := nI L.2.1) rfl (by decide)]
  rw [hz_o (cput_b (show 24 + k < 49 by omega)) (by decide)]
  /- whether it's moved -/
  have inner : ∀ x41 : Int32, ∀ mv : Int32, x41 = s_ms (s_sl A.1 L) k → ((mv = 1 ∧ ∃ x, s_RD A.1.1 A.1.2.1 k x ∧ s_va L x) ∨ (mv = 0 ∧ ¬ ∃ x, s_RD A.1.1 A.1.2.1 k x ∧ s_va L x)) → (∃ P_103 : Int32 → (Option Nat) → Int32 → Int32 → zHp → Nat → Prop, (∀ (x_47 : Int32) (r_48 : Option Nat) (x_49 : Int32) (x_50 : Int32) (hp_51 : zHp) (nx_52 : Nat), P_103 x_47 r_48 x_49 x_50 hp_51 nx_52 → x_47 = s_ms (s_sl A.1 L) (k + 1) ∧ r_48 = some (x0 + cBA L.1) ∧ x_49 = nI k ∧ hp_51 = cput g x0 P σ hp ∧ nx = nx_52) ∧ ((mv = 0 → P_103 x41 (some (x0 + cBA L.1)) (nI k) mv (cput g x0 P σ hp) nx) ∧ (¬ mv = 0 → (A.1.1 k = [] → P_103 x41 (some (x0 + cBA L.1)) (nI k) mv (cput g x0 P σ hp) nx) ∧ (A.1.1 k ≠ [] → P_103 (x41 ||| ((1 : Int32) <<< (nI k &&& 31))) (some (x0 + cBA L.1)) (nI k) mv (cput g x0 P σ hp) nx)))) := by
    intro x41 mv e41 hmv
    subst e41
    have hno : ¬ s_sl A.1 L k → s_ms (s_sl A.1 L) (k + 1) = s_ms (s_sl A.1 L) k := fun z => by
      show s_ms _ k ||| s_if (s_sl A.1 L k) _ 0 = _
      rw [s_if_n z, Int32.or_zero]
    have hye : s_sl A.1 L k → s_ms (s_sl A.1 L) (k + 1) = s_ms (s_sl A.1 L) k ||| ((1 : Int32) <<< (nI k &&& 31)) := fun z => by
      show s_ms _ k ||| s_if (s_sl A.1 L k) _ 0 = _
      rw [s_if_p z]
    refine ⟨fun s r y _ h n => s = s_ms (s_sl A.1 L) (k + 1) ∧ r = some (x0 + cBA L.1) ∧ y = nI k ∧ h = cput g x0 P σ hp ∧ nx = n, fun _ _ _ _ _ _ h => h, fun z => ?_, fun z => ⟨fun y => ?_, fun y => ?_⟩⟩
    · refine ⟨(hno (fun w => ?_)).symm, rfl, rfl, rfl, rfl⟩
      rcases hmv with ⟨e, -⟩ | ⟨-, e⟩
      · rw [e] at z; exact absurd z (by decide)
      · exact e w.2.2
    · exact ⟨(hno (fun w => w.2.1 y)).symm, rfl, rfl, rfl, rfl⟩
    · refine ⟨(hye ⟨k3, y, ?_⟩).symm, rfl, rfl, rfl, rfl⟩
      rcases hmv with ⟨-, e⟩ | ⟨e, -⟩
      · exact e
      · exact absurd e z
  refine b_getI (by omega) hbk (by omega) (fun x40 hx40 => ?_)
  refine ⟨fun x41 r42 x43 x44 h n => x41 = s_ms (s_sl A.1 L) k ∧ ((x44 = 1 ∧ ∃ x, s_RD A.1.1 A.1.2.1 k x ∧ s_va L x) ∨ (x44 = 0 ∧ ¬ ∃ x, s_RD A.1.1 A.1.2.1 k x ∧ s_va L x)) ∧ r42 = some (x0 + cBA L.1) ∧ x43 = nI k ∧ h = cput g x0 P σ hp ∧ nx = n, ?_, ?_⟩
  · rintro x41 r42 x43 x44 h n ⟨e41, hmv, rfl, rfl, rfl, rfl⟩
    obtain ⟨PP, h1, h2, h3⟩ := inner x41 x44 e41 hmv
    refine ⟨PP, ?_, h2, fun z => ?_⟩
    · intro x47 r48 x49 x50 h51 n52 hP
      obtain ⟨rfl, rfl, rfl, rfl, rfl⟩ := h1 _ _ _ _ _ _ hP
      rw [hz_o (cput_b (show L.1 < 49 by omega)) (by decide), nI_1]
      refine st (k + 1) (by omega) _ (fun x hx => ?_)
      rcases hx with ⟨k', j1, j2, j3, rfl, j5⟩ | ⟨rfl, j5⟩
      · exact ⟨25 - k', by omega, Or.inl ⟨k', rfl, j2, j3, rfl, j5.symm⟩, rfl, rfl, rfl⟩
      · exact ⟨0, by omega, Or.inr ⟨rfl, rfl, j5.symm⟩, rfl, rfl, rfl⟩
    · refine cRC (S := A.1) i6.1 k2 ?_
      rw [cc_o i1 k2]
      refine ⟨fun q h n => ((q = 1 ∧ A.1.1 k = []) ∨ (q = 0 ∧ A.1.1 k ≠ [])) ∧ h = cput g x0 P σ hp ∧ nx = n, ?_, c_isIn (S := A.1) i1 i6.1 k2 (by omega) (fun w => ⟨Or.inl ⟨rfl, w⟩, rfl, rfl⟩) (fun w => ⟨Or.inr ⟨rfl, w⟩, rfl, rfl⟩)⟩
      rintro q h n ⟨hq, rfl, rfl⟩
      refine ⟨fun w => ?_, fun w => ?_⟩
      · intro x71 e71
        subst e71
        rcases hq with ⟨e, -⟩ | ⟨-, e⟩
        · rw [e] at w; exact absurd w (by decide)
        · exact (h3 z).2 e
      · rcases hq with ⟨-, e⟩ | ⟨e, -⟩
        · exact (h3 z).1 e
        · exact absurd e w
  refine ⟨fun x r y h n => x = s_ms (s_sl A.1 L) k ∧ (∃ x, s_RD A.1.1 A.1.2.1 k x ∧ s_va L x) ∧ r = some (x0 + cBA L.1) ∧ y = nI k ∧ h = cput g x0 P σ hp ∧ nx = n, ?_, fun z => ?_, fun z => ?_⟩
  · rintro x r y h n ⟨rfl, e, rfl, rfl, rfl, rfl⟩
    exact ⟨rfl, Or.inl ⟨rfl, e⟩, rfl, rfl, rfl, rfl⟩
  rotate_left
  · rcases hx40 with ⟨-, e⟩ | ⟨e, -⟩
    · exact ⟨rfl, ⟨L.2.1, (hrd L.2.1 hin).mp e, Or.inl rfl⟩, rfl, rfl, rfl, rfl⟩
    · exact absurd e z
  have hn1 : ¬ s_RD A.1.1 A.1.2.1 k L.2.1 := by
    rcases hx40 with ⟨e, -⟩ | ⟨-, e⟩
    · rw [e] at z; exact absurd z (by decide)
    · intro y; rw [(hrd L.2.1 hin).mpr y] at e; cases e
  rw [ch_R i1 q1 (k := 3) (r := r2) rfl (by decide)]
  refine ⟨fun x r y h n => x = s_ms (s_sl A.1 L) k ∧ (¬ ∃ x, s_RD A.1.1 A.1.2.1 k x ∧ s_va L x) ∧ r = some (x0 + cBA L.1) ∧ y = nI k ∧ h = cput g x0 P σ hp ∧ nx = n, ?_, fun y => ?_, fun y => ?_⟩
  · rintro x r y h n ⟨rfl, e, rfl, rfl, rfl, rfl⟩
    exact ⟨rfl, Or.inr ⟨rfl, e⟩, rfl, rfl, rfl, rfl⟩
  · refine ⟨rfl, ?_, rfl, rfl, rfl, rfl⟩
    rintro ⟨x, w1, w2 | w2⟩
    · rw [w2] at w1; exact hn1 w1
    · rcases q3 with ⟨v, -⟩ | ⟨b, a2, -, v, -⟩
      · rw [v] at w2; cases w2
      · rw [y] at v; cases v
  · obtain ⟨b, a2, v1, v2, v3⟩ : ∃ b a2, L.2.2.1 = some b ∧ r2 = some a2 ∧ cAx g hp a2 b L.2.2.2.2 := by
      rcases q3 with ⟨-, v⟩ | v
      · exact absurd v y
      · exact v
    obtain ⟨b', f', w1, -⟩ := v3
    have hb := (hTk.2.2.2.2 b v1).1
    rw [cg_reads, ca_reads]
    refine ⟨ik, ?_⟩
    intro r97 e97
    rw [ck] at e97
    subst e97
    rw [ch_R i1 q1 (k := 3) (r := r2) rfl (by decide), v2, ch_I i1 w1 (x := nI b) rfl (by decide)]
    rw [hz_o (cput_b (show 24 + k < 49 by omega)) (by decide)]
    refine b_getI (by omega) hbk (by omega) (fun x108 hx108 => ⟨fun u => ?_, fun u => ?_⟩)
    · refine ⟨rfl, ?_, rfl, rfl, rfl, rfl⟩
      rintro ⟨x, w1, w2 | w2⟩
      · rw [w2] at w1; exact hn1 w1
      · rw [v1] at w2; cases w2
        rcases hx108 with ⟨e, -⟩ | ⟨-, e⟩
        · rw [e] at u; exact absurd u (by decide)
        · rw [(hrd _ hb).mpr w1] at e; cases e
    · rcases hx108 with ⟨-, e⟩ | ⟨e, -⟩
      · exact ⟨rfl, ⟨b, (hrd b hb).mp e, Or.inr v1⟩, rfl, rfl, rfl, rfl⟩
      · exact absurd e u
/-- the first best case -/
theorem c_best {f a an t : Nat} {L : sL} (hV : sOK A.1) (hI : cINV g x0 P hp σ A M) (hM : M + 10000000 ≤ 2147483647) (ht : t < 6) (hl : A.1.2.1 t = some L) (ha : σ.2.2.2.2.2.2.1 1 t = some a) (hTb : cTb g hp a t L) (hTk : cTk L) (hf : f = 20 ∨ f = 21) (han : hp an = some (.inr (f, cAk f x0 t))) {Q : zHp → Nat → Prop} (hQ : ∀ σ1, cINV g x0 P hp σ1 A (M + 10000000) → (∀ {d : Nat} {PP : Int32 → zHp → Nat → Prop}, 5 ≤ d → PP (cEn (s_bst (cLt f) (fun k => s_cv A.1 L (k / s_my L) (k % s_my L)) (s_nc L))) (cput g x0 P σ1 hp) nx → zMt l g yX20_at cX20_at 4 (some .int) d 0 0 [.ref an, va_rf (some a)] (cput g x0 P σ1 hp) nx (zQi g PP)) → Q (cput g x0 P σ1 hp) nx) (hd : 1353 ≤ d) : zMt l g yX0_runsAll cX0_runsAll 2 none d 0 0 [.ref x0, va_rf (some a)] (cput g x0 P σ hp) nx (zQv g Q) := by
  obtain ⟨rk, hST⟩ := hV.st
  have hI' := hI
  obtain ⟨i1, i2, i3, i4, i5, i6, i7, i8, i9, i10⟩ := hI
  refine c_casA i1 i6.sh hST hV.tm ht ha hl i6.2.2.1 i10 (by omega) hd (fun σ1 a1 a2 a3 a4 a5 a6 => ?_)
  refine hQ σ1 (hI'.tl a1 (a2.trans i3) (fun k p q r => a3 k r) (a5.le (by omega))) (fun {d PP} hd5 hP => ?_)
  exact c_at hd5 i1 hTb hTk ht (fun k hk => by obtain ⟨r1, r2, r3, -⟩ := a6 k hk; exact ⟨r1, r2, r3⟩) han hf hP
theorem s_ca_of {my k : Nat} (hmy : 1 ≤ my) (h8 : my ≤ 64) (hk : k < 2 ^ 20) : ((10 : Int32) * (nI k / nI my)) + (nI k - nI k / nI my * nI my) = s_ca my (some k) := by
  have h1 : k / my ≤ k := Nat.div_le_self _ _
  rw [pk_rem (by omega) (by omega) (by omega), pk_div (by omega) (by omega) (by omega), show (10 : Int32) = nI 10 from rfl, pk_mul, nI_add]
  rfl
/-- asks -/
theorem co_asks (hV : sOK A.1) (hI : cINV g x0 P hp σ A M) (hM : M + 10000000 ≤ 2147483647) (hd : 1400 ≤ d) (hmc : 1 ≤ mc) (hms : 6 ≤ ms) {x w : Int32} {K : Int32 → zHp → Nat → Prop} (hK : ∀ σ' hp' nx', cINV g x0 P hp' σ' A (M + 10000000) → hLe hp hp' → nx ≤ nx' → K (o_asks A x w) (cput g x0 P σ' hp') nx') : zMt l g yX0_asks cX0_asks 6 (some .int) d mc ms [.ref x0, .int x, .int w] (cput g x0 P σ hp) nx (zQi g K) := by
  obtain ⟨d, rfl⟩ := Nat.exists_eq_add_of_le' (show 1 ≤ d by omega)
  obtain ⟨rk, hST⟩ := hV.st
  have hI' := hI
  obtain ⟨i1, i2, i3, i4, i5, i6, i7, i8, i9, i10⟩ := hI
  have h0 := hK σ hp nx (cIV_tl hI' (by omega)) hLe.rf (Nat.le_refl _)
  have hB0 := i1.1
  apply met_X0_asks
  unfold wp_X0_asks
  refine ⟨Nat.zero_le _, Nat.zero_le _, ?_⟩
  have m19 : ∀ h n kc ks, (o_asks A x w = -2 ∧ h = cput g x0 P σ hp ∧ nx = n ∧ kc = 0 ∧ ks = 0) → kc ≤ mc ∧ ks ≤ ms ∧ K (-2) h n := by
    rintro h n kc ks ⟨e, rfl, rfl, rfl, rfl⟩
    rw [e] at h0
    exact ⟨Nat.zero_le _, Nat.zero_le _, h0⟩
  refine c_isTable (by omega) (fun e => ?_) (fun t ht ex e => ?_)
  · exact ⟨fun h n kc ks => o_asks A x w = -2 ∧ h = cput g x0 P σ hp ∧ nx = n ∧ kc = 0 ∧ ks = 0, m19, fun _ => ⟨by unfold o_asks; rw [e], rfl, rfl, rfl, rfl⟩, fun z => absurd rfl z⟩
  refine ⟨fun h n kc ks => o_asks A x w = -2 ∧ h = cput g x0 P σ hp ∧ nx = n ∧ kc = 0 ∧ ks = 0, m19, fun z => absurd z (by decide), fun _ => ⟨Nat.zero_le _, Nat.zero_le _, ?_⟩⟩
  subst ex
  have cct : (nI t).toNatClampNeg = t := nI_clamp (by omega)
  refine c_inn (a := 0) (b := 8) (by decide) (by decide) (by omega) (fun z => ⟨fun _ => ⟨by unfold o_asks; rw [e]; simp only [if_pos z], rfl, rfl, rfl, rfl⟩, fun y => absurd rfl y⟩) (fun hw => ⟨fun y => absurd y (by decide), fun _ => ?_⟩)
  obtain ⟨f, hf, rfl⟩ : ∃ k, k < 9 ∧ w = nI k := by
    rcases s_x_of (x := w) (M := 8) (n := 8) (by decide) with q | q
    · exact absurd q hw
    · exact q
  have cf : (nI f).toNatClampNeg = f := nI_clamp (by omega)
  refine cRT ht ?_
  have hn := i6.1.tn ht
  refine ⟨fun z => ⟨Nat.zero_le _, Nat.zero_le _, ?_⟩, fun z => ?_⟩
  · have : o_asks A (nI t) (nI f) = -3 := by unfold o_asks; rw [e]; simp only [if_neg hw, hn.mp z]
    rw [this] at h0
    exact h0
  clear m19
  obtain ⟨L, hl⟩ : ∃ L, A.1.2.1 t = some L := by
    cases h : A.1.2.1 t with
    | none => exact absurd (hn.mpr h) z
    | some L => exact ⟨L, rfl⟩
  obtain ⟨a, ha, hTb, hTk⟩ := i6.1.tb ht hl
  have eo : o_asks A (nI t) (nI f) = o_ask A.1 t L f := by
    unfold o_asks; rw [e]; simp only [if_neg hw, hl, cf]
  rw [eo] at hK h0
  rw [ha]
  have hTb' := hTb
  obtain ⟨a1, r2, q1, q2, q3⟩ := hTb'
  have hmy := hTk.my
  have hnc := hTk.nc
  have hm2 : ∀ {k : Nat}, k < 9 → nI f = nI k → f = k := fun {k} hk y => (nI_eq (by omega) (by omega)).mp y
  have hBL := hV.2.2.2.1
  refine ⟨fun e0 => ?_, fun e0 => ?_, fun e0 => ?_, fun e0 => ?_, fun e0 => ?_, fun e0 => ?_, fun e0 => ?_, fun e0 => ?_, fun e0 => ?_⟩
  · have e0 := hm2 (k := 0) (by decide) e0
    subst e0
    refine ⟨fun r19 r20 h n kc ks => r19 = some a ∧ r20 = some nx ∧ h = cput g x0 P σ (va_up hp nx (some (.inr (20, cAk 20 x0 t)))) ∧ n = nx + 1 ∧ kc = 1 ∧ ks ≤ 6 ∧ ¬ cOv x0 P nx ∧ hp nx = none, ?_, fun y => ?_, fun y => ?_⟩
    · rintro r19 r20 h n kc ks ⟨rfl, rfl, rfl, rfl, rfl, hks, u1, u2⟩
      have l1 : hLe hp (va_up hp nx (some (.inr (20, cAk 20 x0 t)))) := hLe.up u2
      have w1 : cW g x0 P (va_up hp nx (some (.inr (20, cAk 20 x0 t)))) := cW_hq u1 i1
      obtain ⟨hp1, e1⟩ : ∃ hp1, hp1 = va_up hp nx (some (.inr (20, cAk 20 x0 t))) := ⟨_, rfl⟩
      rw [← e1] at l1 w1 ⊢
      have n1 : hp1 nx = some (.inr (20, cAk 20 x0 t)) := by rw [e1, va_s]
      refine ⟨by omega, by omega, ?_⟩
      rw [cz_o]
      refine c_best (f := 20) (an := nx) hV (hI'.mo l1 w1) hM ht hl ha (hTb.mo l1) hTk (by decide) n1 (fun σ1 b1 b2 => ?_) (by omega)
      have hfin := hK σ1 hp1 (nx + 1) b1 l1 (by omega)
      have ek : o_ask A.1 t L 0 = s_ca (s_my L) (s_bst (cLt 20) (fun k => s_cv A.1 L (k / s_my L) (k % s_my L)) (s_nc L)) := rfl
      rw [ek] at hfin
      have hlt := fun k => s_bst_lt (lt := cLt 20) (r := fun k => s_cv A.1 L (k / s_my L) (k % s_my L)) (n := s_nc L) (f := k)
      refine ⟨by omega, by omega, ?_⟩
      rw [ch_o w1 n1 (by decide)]
      refine ⟨fun x h n => x = cEn (s_bst (cLt 20) (fun k => s_cv A.1 L (k / s_my L) (k % s_my L)) (s_nc L)) ∧ h = cput g x0 P σ1 hp1 ∧ n = nx + 1, ?_, b2 (by omega) ⟨rfl, rfl, rfl⟩⟩
      rintro x h n ⟨rfl, rfl, rfl⟩
      generalize s_bst (cLt 20) (fun k => s_cv A.1 L (k / s_my L) (k % s_my L)) (s_nc L) = o at hfin hlt ⊢
      refine ⟨fun _ _ _ x h n kc ks => x = s_ca (s_my L) o ∧ h = cput g x0 P σ1 hp1 ∧ n = nx + 1 ∧ kc ≤ 1 ∧ ks ≤ 6, ?_, fun y => ?_, fun y => ?_⟩
      · rintro _ _ _ x h n kc ks ⟨rfl, rfl, rfl, b3, b4⟩
        exact ⟨by omega, by omega, hfin⟩
      · cases o with
        | none => exact ⟨rfl, rfl, rfl, by omega, by omega⟩
        | some k => exact absurd y (nI_ne_m1 (by have := hlt k rfl; omega))
      · cases o with
        | none => exact absurd rfl y
        | some k =>
          have hk := hlt k rfl
          refine ⟨by omega, by omega, ?_⟩
          rw [ch_o w1 (l1 _ _ q1) (by decide)]
          refine c_many (by omega) w1 (hTb.mo l1) ⟨nI_ne0 (by omega) (by omega), by omega, by omega, ?_⟩
          rw [ch_o w1 (l1 _ _ q1) (by decide)]
          refine c_many (by omega) w1 (hTb.mo l1) ⟨nI_ne0 (by omega) (by omega), s_ca_of (by omega) (by omega) (by omega), rfl, rfl, by omega, by omega⟩
    · refine c_nw i1 (by omega) (by rw [zNn_20]; omega) (fun u1 u2 u3 u4 => ?_)
      rw [zNf_20]
      rintro _ _ _ rfl rfl rfl
      refine ⟨by omega, by rw [zNn_20]; omega, x20_20 (cput_h (cW_hq u1 i1) va_s) u3 (by omega) ?_⟩
      rw [c_put2 u1]
      exact ⟨rfl, rfl, rfl, rfl, rfl, by rw [zNn_20]; omega, u1, u2⟩
    · exact absurd rfl y
  · have e0 := hm2 (k := 1) (by decide) e0
    subst e0
    refine ⟨fun r19 r20 h n kc ks => r19 = some a ∧ r20 = some nx ∧ h = cput g x0 P σ (va_up hp nx (some (.inr (21, cAk 21 x0 t)))) ∧ n = nx + 1 ∧ kc = 1 ∧ ks ≤ 6 ∧ ¬ cOv x0 P nx ∧ hp nx = none, ?_, fun y => ?_, fun y => ?_⟩
    · rintro r19 r20 h n kc ks ⟨rfl, rfl, rfl, rfl, rfl, hks, u1, u2⟩
      have l1 : hLe hp (va_up hp nx (some (.inr (21, cAk 21 x0 t)))) := hLe.up u2
      have w1 : cW g x0 P (va_up hp nx (some (.inr (21, cAk 21 x0 t)))) := cW_hq u1 i1
      obtain ⟨hp1, e1⟩ : ∃ hp1, hp1 = va_up hp nx (some (.inr (21, cAk 21 x0 t))) := ⟨_, rfl⟩
      rw [← e1] at l1 w1 ⊢
      have n1 : hp1 nx = some (.inr (21, cAk 21 x0 t)) := by rw [e1, va_s]
      refine ⟨by omega, by omega, ?_⟩
      rw [cz_o]
      refine c_best (f := 21) (an := nx) hV (hI'.mo l1 w1) hM ht hl ha (hTb.mo l1) hTk (by decide) n1 (fun σ1 b1 b2 => ?_) (by omega)
      have hfin := hK σ1 hp1 (nx + 1) b1 l1 (by omega)
      have ek : o_ask A.1 t L 1 = s_ca (s_my L) (s_bst (cLt 21) (fun k => s_cv A.1 L (k / s_my L) (k % s_my L)) (s_nc L)) := rfl
      rw [ek] at hfin
      have hlt := fun k => s_bst_lt (lt := cLt 21) (r := fun k => s_cv A.1 L (k / s_my L) (k % s_my L)) (n := s_nc L) (f := k)
      refine ⟨by omega, by omega, ?_⟩
      rw [ch_o w1 n1 (by decide)]
      refine ⟨fun x h n => x = cEn (s_bst (cLt 21) (fun k => s_cv A.1 L (k / s_my L) (k % s_my L)) (s_nc L)) ∧ h = cput g x0 P σ1 hp1 ∧ n = nx + 1, ?_, b2 (by omega) ⟨rfl, rfl, rfl⟩⟩
      rintro x h n ⟨rfl, rfl, rfl⟩
      generalize s_bst (cLt 21) (fun k => s_cv A.1 L (k / s_my L) (k % s_my L)) (s_nc L) = o at hfin hlt ⊢
      refine ⟨fun _ _ _ x h n kc ks => x = s_ca (s_my L) o ∧ h = cput g x0 P σ1 hp1 ∧ n = nx + 1 ∧ kc ≤ 1 ∧ ks ≤ 6, ?_, fun y => ?_, fun y => ?_⟩
      · rintro _ _ _ x h n kc ks ⟨rfl, rfl, rfl, b3, b4⟩
        exact ⟨by omega, by omega, hfin⟩
      · cases o with
        | none => exact ⟨rfl, rfl, rfl, by omega, by omega⟩
        | some k => exact absurd y (nI_ne_m1 (by have := hlt k rfl; omega))
      · cases o with
        | none => exact absurd rfl y
        | some k =>
          have hk := hlt k rfl
          refine ⟨by omega, by omega, ?_⟩
          rw [ch_o w1 (l1 _ _ q1) (by decide)]
          refine c_many (by omega) w1 (hTb.mo l1) ⟨nI_ne0 (by omega) (by omega), by omega, by omega, ?_⟩
          rw [ch_o w1 (l1 _ _ q1) (by decide)]
          refine c_many (by omega) w1 (hTb.mo l1) ⟨nI_ne0 (by omega) (by omega), s_ca_of (by omega) (by omega) (by omega), rfl, rfl, by omega, by omega⟩
    · exact absurd y (by decide)
    · refine c_nw i1 (by omega) (by rw [zNn_21]; omega) (fun u1 u2 u3 u4 => ?_)
      rw [zNf_21]
      rintro _ _ _ rfl rfl rfl
      refine ⟨by omega, by rw [zNn_21]; omega, x21_21 (cput_h (cW_hq u1 i1) va_s) u3 (by omega) ?_⟩
      rw [c_put2 u1]
      exact ⟨rfl, rfl, rfl, rfl, rfl, by rw [zNn_21]; omega, u1, u2⟩
  · have e0 := hm2 (k := 2) (by decide) e0
    subst e0
    refine ⟨Nat.zero_le _, Nat.zero_le _, ?_⟩
    rw [cz_o]
    exact c_slice hV hI' hl hTb hTk (by omega) ⟨Nat.zero_le _, Nat.zero_le _, h0⟩
  · have e0 := hm2 (k := 3) (by decide) e0
    subst e0
    rw [cp_told]
    refine ⟨hB0, Nat.zero_le _, Nat.zero_le _, ?_⟩
    rw [cz_o]
    refine c_casA (σ := cuI σ 10 0) i1 i6.sh hST hV.tm ht ha hl i6.2.2.1 i10 (by omega) (by omega) (fun σ1 a1 a2 a3 a4 a5 a6 => ?_)
    rw [cg_told, a4]
    have hfin := hK σ1 hp nx (hI'.tl (by rw [a1]; rfl) (by rw [a2]; exact i3) (fun k p q r => by
      rw [a3 k r]
      show va_up σ.1 10 0 k = _
      rw [va_o r]) (a5.le (by omega))) hLe.rf (Nat.le_refl _)
    have e10 : (cuI σ 10 0).1 10 = 0 := by unfold cuI; simp only [va_s]
    rw [e10, Int32.zero_add]
    exact ⟨Nat.zero_le _, Nat.zero_le _, hfin⟩
  · have e0 := hm2 (k := 4) (by decide) e0
    subst e0
    rw [cg_tableBurdens, ca_tableBurdens]
    refine ⟨vp_in_nI ht (by decide), ?_⟩
    intro q eq
    have hw4 := ((i6.2.1 (24 + t) (by omega)).2 (by omega)).1
    unfold cKt at hw4
    rw [show 24 + t - 24 = t by omega, s_tb_s hl] at hw4
    rw [cct, hw4] at eq
    subst eq
    exact ⟨Nat.zero_le _, Nat.zero_le _, h0⟩
  · have e0 := hm2 (k := 5) (by decide) e0
    subst e0
    obtain ⟨b1, f1, p1, p2, p3⟩ := q2
    rw [ch_R i1 q1 (r := some a1) rfl (by decide)]
    refine ⟨Nat.zero_le _, Nat.zero_le _, ?_⟩
    rw [ch_o i1 p1 (by decide)]
    exact c_size (by omega) i1 ⟨b1, f1, p1, p2, p3⟩ ⟨Nat.zero_le _, Nat.zero_le _, h0⟩
  · have e0 := hm2 (k := 6) (by decide) e0
    subst e0
    rw [ch_R i1 q1 (k := 3) (r := r2) rfl (by decide)]
    refine ⟨fun _ x h n kc ks => x = (if L.2.2.1 = none then 0 else nI (s_my L)) ∧ h = cput g x0 P σ hp ∧ nx = n ∧ kc = 0 ∧ ks = 0, ?_, fun y => ?_, fun y => ?_⟩
    · rintro _ x h n kc ks ⟨rfl, rfl, rfl, rfl, rfl⟩
      exact ⟨Nat.zero_le _, Nat.zero_le _, h0⟩
    · rcases q3 with ⟨v, -⟩ | ⟨b, a2, -, v, -⟩
      · exact ⟨by rw [if_pos v], rfl, rfl, rfl, rfl⟩
      · rw [y] at v; cases v
    · rcases q3 with ⟨-, v⟩ | ⟨b, a2, v1, v2, v3⟩
      · exact absurd v y
      · rw [ch_R i1 q1 (k := 3) (r := r2) rfl (by decide), v2]
        refine ⟨Nat.zero_le _, Nat.zero_le _, ?_⟩
        have v3' := v3
        obtain ⟨b', f', p1, -⟩ := v3'
        rw [ch_o i1 p1 (by decide)]
        refine c_size (by omega) i1 v3 ⟨?_, rfl, rfl, rfl, rfl⟩
        rw [if_neg (by rw [v1]; exact fun y => by cases y), cMy v1]
  · have e0 := hm2 (k := 7) (by decide) e0
    subst e0
    rw [ch_R i1 q1 (k := 2) (r := some a1) rfl (by decide)]
    refine ⟨Nat.zero_le _, Nat.zero_le _, ?_⟩
    rw [cz_o]
    exact c_unlike hI' hTk.2.1 q2 hTk.2.2.2.1 (fun v hv => (hBL t ht L hl).1 v hv) (by omega) (fun σ' b1 => ⟨Nat.zero_le _, Nat.zero_le _, hK σ' hp nx (cIV_tl b1 (by omega)) hLe.rf (Nat.le_refl _)⟩)
  · have e0 : f = 8 := by
      obtain ⟨h0', h1', h2', h3', h4', h5', h6', h7'⟩ := e0
      have hx : ∀ k, k < 8 → ¬ nI f = nI k → f ≠ k := fun k _ y z => y (by rw [z])
      have := hx 0 (by decide) h0'
      have := hx 1 (by decide) h1'
      have := hx 2 (by decide) h2'
      have := hx 3 (by decide) h3'
      have := hx 4 (by decide) h4'
      have := hx 5 (by decide) h5'
      have := hx 6 (by decide) h6'
      have := hx 7 (by decide) h7'
      omega
    subst e0
    rw [ch_R i1 q1 (k := 3) (r := r2) rfl (by decide)]
    refine ⟨Nat.zero_le _, Nat.zero_le _, ?_⟩
    rw [cz_o]
    rcases q3 with ⟨v1, v2⟩ | ⟨b, a2, v1, v2, v3⟩
    · subst v2
      obtain ⟨d, rfl⟩ := Nat.exists_eq_add_of_le' (show 1 ≤ d by omega)
      apply met_X0_unlike
      unfold wp_X0_unlike
      refine ⟨fun x h n => x = 0 ∧ h = cput g x0 P σ hp ∧ nx = n, ?_, fun _ => ⟨rfl, rfl, rfl⟩, fun y => absurd rfl y⟩
      rintro x h n ⟨rfl, rfl, rfl⟩
      have : o_ask A.1 t L 8 = 0 := by
        show nI (s_uo A.1 L 1) = 0
        unfold s_uo
        rw [if_neg (by decide), v1]
        rfl
      rw [this] at h0
      exact ⟨Nat.zero_le _, Nat.zero_le _, h0⟩
    · subst v2
      have hb := hTk.2.2.2.2 b v1
      refine c_unlike hI' hb.1 v3 hb.2.2.2 (fun v hv => (hBL t ht L hl).2.1 v hv) (by omega) (fun σ' b1 => ⟨Nat.zero_le _, Nat.zero_le _, ?_⟩)
      have hfin := hK σ' hp nx (cIV_tl b1 (by omega)) hLe.rf (Nat.le_refl _)
      have : o_ask A.1 t L 8 = nI (s_ul (A.1.2.2.1 b) L.2.2.2.2) := by
        show nI (s_uo A.1 L 1) = _
        unfold s_uo
        rw [if_neg (by decide), v1]
      rw [this] at hfin
      exact hfin
end AS7
