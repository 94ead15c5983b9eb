set_option maxRecDepth 100000
/-! seek -/
section SE
variable {l : Launch} {g : zG} {d x0 : Nat} {P : cP} {σ σ' : cS} {hp hp' : zHp} {nx M M' : Nat} {A : sV} {S : sSt} {mc ms kc ks : Nat}
/-- the bracket's fields: want, low, high, what's told there, what was found, told there, how often -/
def cBr (P : cP) (x0 i c : Nat) (w l h fl fh fo th : UInt64) (n : Nat) : List Value := [.ref (P.1 i), .int (nI c), .double w, .double l, .double h, .double fl, .double fh, .double fo, .double th, .int (nI n), .ref x0]
def cBh (P : cP) (x0 i c : Nat) (hp : zHp) (q : Nat) (w l h fl fh fo th : UInt64) (n : Nat) : zHp := va_up hp q (some (.inr (33, cBr P x0 i c w l h fl fh fo th n)))
theorem cBh_s {i c q n : Nat} {w l h fl fh fo th : UInt64} : cBh P x0 i c hp q w l h fl fh fo th n q = some (.inr (33, cBr P x0 i c w l h fl fh fo th n)) := va_s
theorem cBh_u {i c q n : Nat} {w l h fl fh fo th : UInt64} {v : Option va_E} (hq : ¬ cOv x0 P q) : va_up (cput g x0 P σ (cBh P x0 i c hp q w l h fl fh fo th n)) q v = cput g x0 P σ (va_up hp q v) := c_put2 hq
theorem cBh_W {i c q n : Nat} {w l h fl fh fo th : UInt64} (hq : ¬ cOv x0 P q) (hW : cW g x0 P hp) : cW g x0 P (cBh P x0 i c hp q w l h fl fh fo th n) := cW_hq hq hW
theorem cBh_L {i c q n : Nat} {w l h fl fh fo th : UInt64} (hq : hp q = none) : hLe hp (cBh P x0 i c hp q w l h fl fh fo th n) := hLe.up hq
/-- the state while it's tried: but for one input as it was -/
def cTr (σ : cS) (i : Nat) (τ : cS) (M1 : Nat) : Prop := τ.2.1 = none ∧ (∀ k, k ≠ 2 → k ≠ 3 → k ≠ 10 → τ.1 k = σ.1 k) ∧ cSt τ M1 ∧ (∀ e, e ≠ i → τ.2.2.2.1 e = σ.2.2.2.1 e) ∧ τ.2.2.2.2 = σ.2.2.2.2
theorem c_of {i c q n M1 : Nat} {w l' h fl fh fo th x : UInt64} {τ : cS} (hV : sOK A.1) (hI : cINV g x0 P hp σ A M) (hq : ¬ cOv x0 P q) (hn : hp q = none) (hz : zB g ≤ q) (hi : i < 24) (hc : c < 24) (hx : s_B x) (hT : cTr σ i τ M1) (hM : M1 + 192001 ≤ 2147483647) (hd : 1360 ≤ d) {K : UInt64 → zHp → Nat → Prop}
    (hK : ∀ v τ', cTr σ i τ' (M1 + 192001) → τ'.1 2 = (s_vb A.1 i c x).2.1 → s_B v → ((s_vb A.1 i c x).2.1 = 0 → v = (s_vb A.1 i c x).1) → K v (cput g x0 P τ' (cBh P x0 i c hp q w l' h fl fh fo th (n + 1))) nx) : zMt l g yX33_of cX33_of 3 (some .double) d 0 0 [.ref q, .double x] (cput g x0 P τ (cBh P x0 i c hp q w l' h fl fh fo th n)) nx (zQd g K) := by
  obtain ⟨d, rfl⟩ := Nat.exists_eq_add_of_le' (show 1 ≤ d by omega)
  have i1 := hI.1
  have i6 := hI.2.2.2.2.2.1
  have W0 : cW g x0 P (cBh P x0 i c hp q w l' h fl fh fo th n) := cBh_W hq i1
  have W1 : cW g x0 P (cBh P x0 i c hp q w l' h fl fh fo th (n + 1)) := cBh_W hq i1
  apply met_X33_of
  unfold wp_X33_of
  rw [ch_I W0 cBh_s (k := 9) (x := nI n) rfl (by decide), hz_p (cput_h W0 cBh_s) (by decide) (by show 9 < 11; decide)]
  refine ⟨hz, ?_⟩
  rw [nI_1, cBh_u hq]
  have eS : va_up hp q (some (.inr (33, (cBr P x0 i c w l' h fl fh fo th n).set 9 (.int (nI (n + 1)))))) = cBh P x0 i c hp q w l' h fl fh fo th (n + 1) := rfl
  rw [eS]
  rw [ch_R W1 cBh_s (k := 0) (r := some (P.1 i)) rfl (by decide), ch_R W1 cBh_s (k := 0) (r := some (P.1 i)) rfl (by decide), cc_o W1 hi]
  refine ⟨fun y h' n' => y = s_kp (A.1.2.2.1 i) x ∧ h' = cput g x0 P τ (cBh P x0 i c hp q w l' h fl fh fo th (n + 1)) ∧ nx = n', ?_, c_kept (cput_c W1 hi) (i1.2.2.1 i hi).2.2.2 (by omega) hx ⟨by rw [i6.1.2.1 i hi], rfl, rfl⟩⟩
  rintro y h' n' ⟨rfl, rfl, rfl⟩
  rw [cc_pw W1 hi, ch_R W1 cBh_s (k := 10) (r := some x0) rfl (by decide), ch_I W1 cBh_s (k := 1) (x := nI c) rfl (by decide), cz_o]
  obtain ⟨t2, t1, t3, t4, t5⟩ := hT
  exact c_try hV (hI.mo (cBh_L hn) W1) hi hc hx t1 t3 t4 t5 hM (by omega) (fun v τ' a2 a1 a3 a4 a5 a6 a7 a8 => hK v τ' ⟨a2, a1, a3, a4, a5⟩ a6 a7 a8)
theorem c_finds {i c q n : Nat} {w l' h fl fh fo th x v : UInt64} {τ : cS} (hW : cW g x0 P hp) (hq : ¬ cOv x0 P q) (hz : zB g ≤ q) (hd : 1 ≤ d) {K : zHp → Nat → Prop} (hK : K (cput g x0 P τ (cBh P x0 i c hp q w l' h fl fh x v n)) nx) : zMt l g yX33_finds cX33_finds 5 none d 0 0 [.ref q, .double x, .double v] (cput g x0 P τ (cBh P x0 i c hp q w l' h fl fh fo th n)) nx (zQv g K) := by
  obtain ⟨d, rfl⟩ := Nat.exists_eq_add_of_le' (show 1 ≤ d by omega)
  apply met_X33_finds
  unfold wp_X33_finds
  rw [hz_p (cput_h (cBh_W hq hW) cBh_s) (by decide) (by show 7 < 11; decide)]
  refine ⟨hz, ?_⟩
  rw [cBh_u hq]
  show zpt g (cput g x0 P τ (cBh P x0 i c hp q w l' h fl fh x th n)) (some q) [33] 8 _ _
  rw [hz_p (cput_h (cBh_W hq hW) cBh_s) (by decide) (by show 8 < 11; decide)]
  refine ⟨hz, ?_⟩
  rw [cBh_u hq]
  exact hK
theorem c_inside {i c q n : Nat} {w l' h fl fh fo th x : UInt64} {τ : cS} (hW : cW g x0 P hp) (hq : ¬ cOv x0 P q) (hd : 1 ≤ d) {K : Int32 → zHp → Nat → Prop} (h1 : s_gt x l' ∧ s_lt x h → K 1 (cput g x0 P τ (cBh P x0 i c hp q w l' h fl fh fo th n)) nx) (h0 : ¬ (s_gt x l' ∧ s_lt x h) → K 0 (cput g x0 P τ (cBh P x0 i c hp q w l' h fl fh fo th n)) nx) : zMt l g yX33_isInside cX33_isInside 3 (some .boolean) d 0 0 [.ref q, .double x] (cput g x0 P τ (cBh P x0 i c hp q w l' h fl fh fo th n)) nx (zQi g K) := by
  obtain ⟨d, rfl⟩ := Nat.exists_eq_add_of_le' (show 1 ≤ d by omega)
  have W0 : cW g x0 P (cBh P x0 i c hp q w l' h fl fh fo th n) := cBh_W hq hW
  apply met_X33_isInside
  unfold wp_X33_isInside
  rw [ch_D W0 cBh_s (k := 3) (x := l') rfl (by decide)]
  refine ⟨fun y => (y = 1 ∧ (s_gt x l' ∧ s_lt x h)) ∨ (y = 0 ∧ ¬ (s_gt x l' ∧ s_lt x h)), ?_, ?_⟩
  · rintro y (⟨rfl, z⟩ | ⟨rfl, z⟩)
    · exact ⟨Or.inr rfl, h1 z⟩
    · exact ⟨Or.inl rfl, h0 z⟩
  refine ⟨¬ (s_gt x l' ∧ s_lt x h), fun z => Or.inr ⟨rfl, z⟩, fun z y => (fc_lle.mp z) y.1, fun z => ?_⟩
  rw [ch_D W0 cBh_s (k := 4) (x := h) rfl (by decide)]
  exact ⟨fun y w => (fc_gle.mp y) w.2, fun y => Or.inl ⟨rfl, Classical.not_not.mp (fun w => z (fc_lle.mpr w)), Classical.not_not.mp (fun w => y (fc_gle.mpr w))⟩⟩
theorem c_apart {i c q n : Nat} {w l' h fl fh fo th x : UInt64} {τ : cS} (hW : cW g x0 P hp) (hq : ¬ cOv x0 P q) (hx : s_N x) (hw : s_F w) (hd : 1 ≤ d) {K : UInt64 → zHp → Nat → Prop} (hK : K (s_ab (FP.dsub x w)) (cput g x0 P τ (cBh P x0 i c hp q w l' h fl fh fo th n)) nx) : zMt l g yX33_apart cX33_apart 3 (some .double) d 0 0 [.ref q, .double x] (cput g x0 P τ (cBh P x0 i c hp q w l' h fl fh fo th n)) nx (zQd g K) := by
  obtain ⟨d, rfl⟩ := Nat.exists_eq_add_of_le' (show 1 ≤ d by omega)
  have W0 : cW g x0 P (cBh P x0 i c hp q w l' h fl fh fo th n) := cBh_W hq hW
  apply met_X33_apart
  unfold wp_X33_apart
  have r2 : ∀ {Q : UInt64 → Prop}, zgD (cput g x0 P τ (cBh P x0 i c hp q w l' h fl fh fo th n)) (some q) [33] 2 Q = Q w := fun {Q} => ch_D W0 cBh_s (k := 2) (x := w) rfl (by decide)
  rw [r2]
  refine ⟨fun y => y = s_ab (FP.dsub x w), ?_, fun z => ?_, fun z => ?_⟩
  · rintro y rfl
    exact hK
  · rw [r2]
    exact ⟨fb_sub hx.1 hw, (fb_ab2 hx.1 hw hx.nz (fc_gle.mp z)).symm⟩
  · rw [r2]
    exact ⟨fb_sub hw hx.1, (fb_ab1 hx.1 hw (Classical.not_not.mp (fun y => z (fc_gle.mpr y)))).symm⟩
/-- what came: as the bracket holds it -/
def cFd (r : Option (UInt64 × UInt64)) (fo th : UInt64) : Prop := (r = none ∧ fo = cNaN ∧ th = cNaN) ∨ ∃ q, r = some q ∧ fo = q.1 ∧ th = q.2
theorem c_closesIn {i c q : Nat} {w lo0 hi0 fl0 fh0 : UInt64} {τ0 : cS} {M1 : Nat} (hV : sOK A.1) (hI : cINV g x0 P hp σ A M) (hM : M + 10000000 ≤ 2147483647) (hq : ¬ cOv x0 P q) (hn : hp q = none) (hz : zB g ≤ q) (hi : i < 24) (hc : c < 24) (hw : s_B w) (hl0 : s_B lo0) (hh0 : s_B hi0) (nl0 : s_N fl0) (bl0 : s_B fl0) (nh0 : s_N fh0) (bh0 : s_B fh0) (hlw : s_lt fl0 w ↔ ¬ s_lt fh0 w) (hT0 : cTr σ i τ0 M1) (hM1 : M1 ≤ M + 192001 * 2) (hd : 1370 ≤ d) {K : zHp → Nat → Prop}
    (hK : ∀ lo h fl fh fo th n τ' M2, cTr σ i τ' M2 → M2 ≤ M + 192001 * n → n ≤ 42 → cFd (s_sk (s_vb A.1 i c) w 40 lo0 hi0 fl0 fh0 False 2).1 fo th → n = (s_sk (s_vb A.1 i c) w 40 lo0 hi0 fl0 fh0 False 2).2 → K (cput g x0 P τ' (cBh P x0 i c hp q w lo h fl fh fo th n)) nx) : zMt l g yX33_closesIn cX33_closesIn 9 none d 0 0 [.ref q] (cput g x0 P τ0 (cBh P x0 i c hp q w lo0 hi0 fl0 fh0 cNaN cNaN 2)) nx (zQv g K) := by
  obtain ⟨d, rfl⟩ := Nat.exists_eq_add_of_le' (show 1 ≤ d by omega)
  have i1 := hI.1
  obtain ⟨f, ef⟩ : ∃ f, f = s_vb A.1 i c := ⟨_, rfl⟩
  obtain ⟨res, eres⟩ : ∃ res, res = s_sk (s_vb A.1 i c) w 40 lo0 hi0 fl0 fh0 False 2 := ⟨_, rfl⟩
  rw [← eres] at hK
  rw [← ef] at eres
  have fN : ∀ x, s_B x → s_N (f x).1 ∧ s_B (f x).1 := fun x hx => by rw [ef]; exact s_vb_N hV hc hx
  have e40 : (40 : Int32) = nI 40 := rfl
  apply met_X33_closesIn
  unfold wp_X33_closesIn
  rw [e40]
  refine ⟨fun n a k hh n' => ∃ (H : Prop) (j : Nat) (lo h fl fh : UInt64) (cnt : Nat) (τ : cS) (M2 : Nat), n = 40 - j ∧ ((a = 0 ∧ ¬ H) ∨ (a = 1 ∧ H)) ∧ k = nI j ∧ j ≤ 40 ∧ cnt ≤ j + 2 ∧ hh = cput g x0 P τ (cBh P x0 i c hp q w lo h fl fh cNaN cNaN cnt) ∧ nx = n' ∧ s_B lo ∧ s_B h ∧ s_N fl ∧ s_B fl ∧ s_N fh ∧ s_B fh ∧ (s_lt fl w ↔ ¬ s_lt fh w) ∧ cTr σ i τ M2 ∧ M2 ≤ M + 192001 * cnt ∧ res = s_sk f w (40 - j) lo h fl fh H cnt, ⟨40, False, 0, lo0, hi0, fl0, fh0, 2, τ0, M1, rfl, Or.inl ⟨rfl, id⟩, rfl, by omega, by omega, rfl, rfl, hl0, hh0, nl0, bl0, nh0, bh0, hlw, hT0, hM1, eres⟩, ?_⟩
  rintro n a k hh n' ⟨H, j, lo, h, fl, fh, cnt, τ, M2, rfl, ha, rfl, hj, hcnt, rfl, rfl, bl, bh, nfl, bfl, nfh, bfh, hlw, hT, hM2, hres⟩
  /- the loop's end -/
  refine ⟨fun _ _ hh n => (∃ (lo h fl fh : UInt64) (cnt : Nat) (τ : cS) (M2 : Nat), hh = cput g x0 P τ (cBh P x0 i c hp q w lo h fl fh cNaN cNaN cnt) ∧ cnt ≤ 42 ∧ s_N fl ∧ s_B fl ∧ s_N fh ∧ s_B fh ∧ cTr σ i τ M2 ∧ M2 ≤ M + 192001 * cnt ∧ res = (some (s_end w lo h fl fh), cnt)) ∧ nx = n, ?_, ?_, ?_⟩
  · rintro _ _ hh n ⟨⟨lo, h, fl, fh, cnt, τ, M2, rfl, hcnt, nfl, bfl, nfh, bfh, hT, hM2, hres⟩, rfl⟩
    have W0 : ∀ {fo th n}, cW g x0 P (cBh P x0 i c hp q w lo h fl fh fo th n) := fun {fo th n} => cBh_W hq i1
    rw [ch_D W0 cBh_s (k := 6) (x := fh) rfl (by decide), ch_o W0 cBh_s (by decide)]
    refine c_apart i1 hq nfh hw.f (by omega) ?_
    rw [ch_D W0 cBh_s (k := 5) (x := fl) rfl (by decide), ch_o W0 cBh_s (by decide)]
    refine c_apart i1 hq nfl hw.f (by omega) ?_
    have F1 : s_F (s_ab (FP.dsub fh w)) := s_ab_F (s_Bn.f (fb_subn (M := 40) (by decide) bfh hw))
    have F2 : s_F (s_ab (FP.dsub fl w)) := s_ab_F (s_Bn.f (fb_subn (M := 40) (by decide) bfl hw))
    refine ⟨fun _ _ hh n => (∃ fo th, hh = cput g x0 P τ (cBh P x0 i c hp q w lo h fl fh fo th cnt) ∧ cFd res.1 fo th) ∧ nx = n, ?_, fun z => ?_, fun z => ?_⟩
    · rintro _ _ hh n ⟨⟨fo, th, rfl, hf⟩, rfl⟩
      exact hK lo h fl fh fo th cnt τ M2 hT hM2 hcnt hf (by rw [hres])
    · rw [ch_D W0 cBh_s (k := 3) (x := lo) rfl (by decide), ch_D W0 cBh_s (k := 5) (x := fl) rfl (by decide), ch_o W0 cBh_s (by decide)]
      refine c_finds i1 hq hz (by omega) ⟨⟨lo, fl, rfl, Or.inr ⟨_, by rw [hres], ?_, ?_⟩⟩, rfl⟩
      · unfold s_end; rw [s_if_n (fun y => (fc_gle.mp z) ((fc_lt_gt F2 F1).mp y))]
      · unfold s_end; rw [s_if_n (fun y => (fc_gle.mp z) ((fc_lt_gt F2 F1).mp y))]
    · rw [ch_D W0 cBh_s (k := 4) (x := h) rfl (by decide), ch_D W0 cBh_s (k := 6) (x := fh) rfl (by decide), ch_o W0 cBh_s (by decide)]
      have y : s_gt (s_ab (FP.dsub fl w)) (s_ab (FP.dsub fh w)) := (fc_lt_gt F2 F1).mpr (Classical.not_not.mp (fun v => z (fc_gle.mpr v)))
      refine c_finds i1 hq hz (by omega) ⟨⟨h, fh, rfl, Or.inr ⟨_, by rw [hres], ?_, ?_⟩⟩, rfl⟩
      · unfold s_end; rw [s_if_p y]
      · unfold s_end; rw [s_if_p y]
  · intro y
    have hj40 : j = 40 := by have := (nI_leI (by omega) (by omega)).mp y; omega
    subst hj40
    exact ⟨⟨lo, h, fl, fh, cnt, τ, M2, rfl, by omega, nfl, bfl, nfh, bfh, hT, hM2, hres⟩, rfl⟩
  intro y
  have hj40 : j < 40 := by
    rcases Nat.lt_or_ge j 40 with z | z
    · exact z
    · exact absurd ((nI_leI (by omega) (by omega)).mpr z) y
  obtain ⟨m, hm⟩ : ∃ m, 40 - j = m + 1 := ⟨39 - j, by omega⟩
  rw [hm] at hres
  simp only [s_sk] at hres
  have W0 : ∀ {fo th n}, cW g x0 P (cBh P x0 i c hp q w lo h fl fh fo th n) := fun {fo th n} => cBh_W hq i1
  have hne : ¬ s_eq fh fl := s_lt_eq bfl.f bfh.f hw.f hlw
  have wide : s_Bn 41 (FP.dsub h lo) := fb_subn (M := 40) (by decide) bh bl
  have half41 : s_Bn 41 (FP.ddiv (FP.dsub h lo) 4611686018427387904) := fb_half (by decide) wide
  have hv42 : s_Bn 42 (s_hv lo h) := fb_addn (by decide) (s_Bn.w (M := 40) bl (by decide)) half41
  have c1 : s_Bn 41 (FP.dsub w fl) := fb_subn (M := 40) (by decide) hw bfl
  have c2 : s_Bn 82 (FP.dmul (FP.dsub w fl) (FP.dsub h lo)) := fb_muln (by decide) c1 wide
  have c3 : s_Bn 41 (FP.dsub fh fl) := fb_subn (M := 40) (by decide) bfh bfl
  have c4 : vf_n64 (FP.ddiv (FP.dmul (FP.dsub w fl) (FP.dsub h lo)) (FP.dsub fh fl)) := fb_div c2.f c3.f (fb_subnz bfh.f bfl.f hne)
  have c5 : vf_n64 (s_cut w lo h fl fh) := fb_addF bl.f c4
  obtain ⟨mid, emid⟩ : ∃ mid, mid = s_mid w lo h fl fh H := ⟨_, rfl⟩
  rw [← emid] at hres
  have vmid : vf_n64 mid := by
    rw [emid]
    unfold s_mid
    by_cases z : H ∧ s_gt (s_cut w lo h fl fh) lo ∧ s_lt (s_cut w lo h fl fh) h
    · rw [s_if_p z]; exact c5
    · rw [s_if_n z]; exact fb_Fn hv42.f
  refine ⟨fun a' k x hh n => a' = a ∧ k = nI j ∧ x = s_if H (s_cut w lo h fl fh) (s_hv lo h) ∧ hh = cput g x0 P τ (cBh P x0 i c hp q w lo h fl fh cNaN cNaN cnt) ∧ nx = n, ?_, ?_, ?_⟩
  rotate_left
  · intro z
    have nH : ¬ H := by
      rcases ha with ⟨-, e⟩ | ⟨e, -⟩
      · exact e
      · rw [e] at z; exact absurd z (by decide)
    rw [ch_D W0 cBh_s (k := 3) (x := lo) rfl (by decide), ch_D W0 cBh_s (k := 4) (x := h) rfl (by decide), ch_D W0 cBh_s (k := 3) (x := lo) rfl (by decide)]
    exact ⟨fb_Fn wide.f, fb_Fn half41.f, fb_Fn hv42.f, rfl, rfl, by rw [s_if_n nH]; rfl, rfl, rfl⟩
  · intro z
    have yH : H := by
      rcases ha with ⟨e, -⟩ | ⟨-, e⟩
      · exact absurd e z
      · exact e
    rw [ch_D W0 cBh_s (k := 3) (x := lo) rfl (by decide), ch_D W0 cBh_s (k := 2) (x := w) rfl (by decide), ch_D W0 cBh_s (k := 5) (x := fl) rfl (by decide)]
    refine ⟨fb_Fn c1.f, ?_⟩
    rw [ch_D W0 cBh_s (k := 4) (x := h) rfl (by decide), ch_D W0 cBh_s (k := 3) (x := lo) rfl (by decide)]
    refine ⟨fb_Fn wide.f, fb_Fn c2.f, ?_⟩
    rw [ch_D W0 cBh_s (k := 6) (x := fh) rfl (by decide), ch_D W0 cBh_s (k := 5) (x := fl) rfl (by decide)]
    exact ⟨fb_Fn c3.f, c4, c5, rfl, rfl, by rw [s_if_p yH]; rfl, rfl, rfl⟩
  rintro a' k x hh n ⟨rfl, rfl, rfl, rfl, rfl⟩
  rw [ch_o W0 cBh_s (by decide)]
  refine ?_
  have hinner : ∀ x67 : Int32, ((x67 = 1 ∧ s_if H (s_cut w lo h fl fh) (s_hv lo h) = mid) ∨ (x67 = 0 ∧ s_hv lo h = mid)) → True := fun _ _ => trivial
  have mid1 : (s_gt (s_if H (s_cut w lo h fl fh) (s_hv lo h)) lo ∧ s_lt (s_if H (s_cut w lo h fl fh) (s_hv lo h)) h) → s_if H (s_cut w lo h fl fh) (s_hv lo h) = mid := by
    intro z
    rw [emid]
    unfold s_mid
    by_cases yH : H
    · rw [s_if_p yH] at z ⊢
      rw [s_if_p ⟨yH, z⟩]
    · rw [s_if_n yH, s_if_n (fun v => yH v.1)]
  have mid0 : ¬ (s_gt (s_if H (s_cut w lo h fl fh) (s_hv lo h)) lo ∧ s_lt (s_if H (s_cut w lo h fl fh) (s_hv lo h)) h) → s_hv lo h = mid := by
    intro z
    rw [emid]
    unfold s_mid
    by_cases yH : H
    · rw [s_if_p yH] at z
      rw [s_if_n (fun v => z v.2)]
    · rw [s_if_n (fun v => yH v.1)]
  /- behind the choice of the point -/
  have go : ∀ (x67 : Int32), ((x67 = 1 ∧ s_if H (s_cut w lo h fl fh) (s_hv lo h) = mid) ∨ (x67 = 0 ∧ s_hv lo h = mid)) → True := fun _ _ => trivial
  clear go hinner
  refine c_inside i1 hq (by omega) (fun z => ?_) (fun z => ?_)
  all_goals
    refine ⟨fun a2 k x hh n => a2 = a' ∧ k = nI j ∧ x = mid ∧ hh = cput g x0 P τ (cBh P x0 i c hp q w lo h fl fh cNaN cNaN cnt) ∧ nx = n, ?_, ?_, ?_⟩
  rotate_left
  · intro y; exact absurd y (by decide)
  · intro y; exact ⟨rfl, rfl, mid1 z, rfl, rfl⟩
  rotate_left
  · intro y
    rw [ch_D W0 cBh_s (k := 3) (x := lo) rfl (by decide), ch_D W0 cBh_s (k := 4) (x := h) rfl (by decide), ch_D W0 cBh_s (k := 3) (x := lo) rfl (by decide)]
    refine ⟨fb_Fn wide.f, fb_Fn half41.f, fb_Fn hv42.f, ?_⟩
    rintro _ rfl
    exact ⟨rfl, rfl, mid0 z, rfl, rfl⟩
  · intro y; exact absurd rfl y
  all_goals
    rintro a2 k x hh n ⟨rfl, rfl, rfl, rfl, rfl⟩
    rw [ch_o W0 cBh_s (by decide)]
    refine c_inside i1 hq (by omega) (fun zi => ⟨fun y => absurd y (by decide), fun _ => ?_⟩) (fun zi => ⟨fun _ => ?_, fun y => absurd rfl y⟩)
    rotate_left
    · rw [s_if_n zi] at hres
      exact ⟨⟨lo, h, fl, fh, cnt, τ, M2, rfl, by omega, nfl, bfl, nfh, bfh, hT, hM2, hres⟩, rfl⟩
    rw [s_if_p zi] at hres
    have bmid : s_B x := fo_inB vmid bl bh zi.1 zi.2
    rw [ch_o W0 cBh_s (by decide)]
    refine c_of hV hI hq hn hz hi hc bmid hT (by omega) (by omega) (fun v τ1 hT1 v2 vB v1 => ?_)
    rw [← ef] at v2 v1
    have W1 : ∀ {a b c' e fo th n}, cW g x0 P (cBh P x0 i c hp q w a b c' e fo th n) := fun {a b c' e fo th n} => cBh_W hq i1
    rw [ch_R W1 cBh_s (k := 10) (r := some x0) rfl (by decide), cg_fault, v2]
    refine ⟨fun e0 => ?_, fun e0 => ?_⟩
    rotate_left
    · rw [if_pos e0] at hres
      exact hK lo h fl fh cNaN cNaN (cnt + 1) τ1 _ hT1 (by omega) (by omega) (Or.inl ⟨by rw [hres], rfl, rfl⟩) (by rw [hres])
    rw [if_neg (fun y => y e0)] at hres
    have v1 := v1 e0
    obtain ⟨nv, bv⟩ := fN x bmid
    rw [← v1] at nv bv hres
    rw [ch_D W1 cBh_s (k := 2) (x := w) rfl (by decide)]
    refine ⟨fun e1 => ?_, fun e1 => ?_⟩
    · rw [s_if_p (fc_l0.mp e1)] at hres
      rw [ch_o W1 cBh_s (by decide)]
      exact c_finds i1 hq hz (by omega) (hK lo h fl fh x v (cnt + 1) τ1 _ hT1 (by omega) (by omega) (Or.inr ⟨_, by rw [hres], rfl, rfl⟩) (by rw [hres]))
    rw [s_if_n (fun y => e1 (fc_l0.mpr y))] at hres
    rw [ch_D W1 cBh_s (k := 4) (x := h) rfl (by decide), ch_D W1 cBh_s (k := 3) (x := lo) rfl (by decide)]
    refine ⟨fb_Fn wide.f, ?_⟩
    rintro _ rfl
    rw [ch_D W1 cBh_s (k := 2) (x := w) rfl (by decide)]
    refine ⟨fun a3 k p1 p2 p3 z1 hh n => a3 = a2 ∧ k = nI j ∧ p1 = x ∧ p2 = v ∧ p3 = FP.dsub h lo ∧ ((z1 = 1 ∧ s_lt v w) ∨ (z1 = 0 ∧ ¬ s_lt v w)) ∧ hh = cput g x0 P τ1 (cBh P x0 i c hp q w lo h fl fh cNaN cNaN (cnt + 1)) ∧ nx = n, ?_, fun y => ⟨rfl, rfl, rfl, rfl, rfl, Or.inr ⟨rfl, fc_gle.mp y⟩, rfl, rfl⟩, fun y => ⟨rfl, rfl, rfl, rfl, rfl, Or.inl ⟨rfl, Classical.not_not.mp (fun u => y (fc_gle.mpr u))⟩, rfl, rfl⟩⟩
    rintro a3 k p1 p2 p3 z1 hh n ⟨rfl, rfl, rfl, rfl, rfl, hz1, rfl, rfl⟩
    rw [ch_D W1 cBh_s (k := 5) (x := fl) rfl (by decide), ch_D W1 cBh_s (k := 2) (x := w) rfl (by decide)]
    refine ⟨fun a4 k p4 p5 p6 z3 z2 hh n => k = nI j ∧ p4 = p1 ∧ p5 = p2 ∧ p6 = FP.dsub h lo ∧ z3 = z1 ∧ ((z2 = 1 ∧ s_lt fl w) ∨ (z2 = 0 ∧ ¬ s_lt fl w)) ∧ hh = cput g x0 P τ1 (cBh P x0 i c hp q w lo h fl fh cNaN cNaN (cnt + 1)) ∧ nx = n, ?_, fun y => ⟨rfl, rfl, rfl, rfl, rfl, Or.inr ⟨rfl, fc_gle.mp y⟩, rfl, rfl⟩, fun y => ⟨rfl, rfl, rfl, rfl, rfl, Or.inl ⟨rfl, Classical.not_not.mp (fun u => y (fc_gle.mpr u))⟩, rfl, rfl⟩⟩
    rintro a4 k p4 p5 p6 z3 z2 hh n ⟨rfl, rfl, rfl, rfl, rfl, hz2, rfl, rfl⟩
    have eqz : z3 = z2 ↔ (s_lt p5 w ↔ s_lt fl w) := by
      rcases hz1 with ⟨rfl, y1⟩ | ⟨rfl, y1⟩ <;> rcases hz2 with ⟨rfl, y2⟩ | ⟨rfl, y2⟩
      · exact ⟨fun _ => ⟨fun _ => y2, fun _ => y1⟩, fun _ => rfl⟩
      · exact ⟨fun u => absurd u (by decide), fun u => absurd (u.mp y1) y2⟩
      · exact ⟨fun u => absurd u (by decide), fun u => absurd (u.mpr y2) y1⟩
      · exact ⟨fun _ => ⟨fun u => absurd u y1, fun u => absurd u y2⟩, fun _ => rfl⟩
    /- the new bracket -/
    refine ⟨fun a5 k p7 p8 p9 hh n => k = nI j ∧ p9 = FP.dsub h lo ∧ nx = n ∧ ∃ lo' h' fl' fh', hh = cput g x0 P τ1 (cBh P x0 i c hp q w lo' h' fl' fh' cNaN cNaN (cnt + 1)) ∧ s_B lo' ∧ s_B h' ∧ s_N fl' ∧ s_B fl' ∧ s_N fh' ∧ s_B fh' ∧ (s_lt fl' w ↔ ¬ s_lt fh' w) ∧ res = s_sk f w m lo' h' fl' fh' (s_hw lo' h' (FP.dsub h lo)) (cnt + 1), ?_, fun y => ?_, fun y => ?_⟩
    · rintro a5 k p7 p8 p9 hh n ⟨rfl, rfl, rfl, lo', h', fl', fh', rfl, b1, b2, b3, b4, b5, b6, b7, hres'⟩
      rw [ch_D W1 cBh_s (k := 4) (x := h') rfl (by decide), ch_D W1 cBh_s (k := 3) (x := lo') rfl (by decide)]
      have w2 : s_Bn 41 (FP.dsub h' lo') := fb_subn (by decide) b2 b1
      refine ⟨fb_Fn w2.f, fb_Fn half41.f, ?_⟩
      refine ⟨fun a6 k p10 p11 p12 z5 hh n => k = nI j ∧ ((z5 = 0 ∧ ¬ s_hw lo' h' (FP.dsub h lo)) ∨ (z5 = 1 ∧ s_hw lo' h' (FP.dsub h lo))) ∧ hh = cput g x0 P τ1 (cBh P x0 i c hp q w lo' h' fl' fh' cNaN cNaN (cnt + 1)) ∧ nx = n, ?_, fun u => ⟨rfl, Or.inl ⟨rfl, fun u2 => u2 ((fc_gg w2.f half41.f).mp u)⟩, rfl, rfl⟩, fun u => ⟨rfl, Or.inr ⟨rfl, fun u2 => u ((fc_gg w2.f half41.f).mpr u2)⟩, rfl, rfl⟩⟩
      rintro a6 k p10 p11 p12 z5 hh n ⟨rfl, hz5, rfl, rfl⟩
      rintro _ rfl
      exact ⟨40 - (j + 1), by omega, s_hw lo' h' (FP.dsub h lo), j + 1, lo', h', fl', fh', cnt + 1, τ1, _, rfl, hz5, nI_1 j, by omega, by omega, rfl, rfl, b1, b2, b3, b4, b5, b6, b7, hT1, by omega, by rw [show 40 - (j + 1) = m by omega]; exact hres'⟩
    · rw [s_if_p (eqz.mp y)] at hres
      rw [hz_p (cput_h W1 cBh_s) (by decide) (by show 3 < 11; decide)]
      refine ⟨hz, ?_⟩
      rw [cBh_u hq]
      show zpt g (cput g x0 P τ1 (cBh P x0 i c hp q w p4 h fl fh cNaN cNaN (cnt + 1))) (some q) [33] 5 _ _
      rw [hz_p (cput_h W1 cBh_s) (by decide) (by show 5 < 11; decide)]
      refine ⟨hz, ?_⟩
      rw [cBh_u hq]
      exact ⟨rfl, rfl, rfl, p4, h, p5, fh, rfl, bmid, bh, nv, bv, nfh, bfh, (eqz.mp y).trans hlw, hres⟩
    · rw [s_if_n (fun u => y (eqz.mpr u))] at hres
      rw [hz_p (cput_h W1 cBh_s) (by decide) (by show 4 < 11; decide)]
      refine ⟨hz, ?_⟩
      rw [cBh_u hq]
      show zpt g (cput g x0 P τ1 (cBh P x0 i c hp q w lo p4 fl fh cNaN cNaN (cnt + 1))) (some q) [33] 6 _ _
      rw [hz_p (cput_h W1 cBh_s) (by decide) (by show 6 < 11; decide)]
      refine ⟨hz, ?_⟩
      rw [cBh_u hq]
      refine ⟨rfl, rfl, rfl, lo, p4, fl, p5, rfl, bl, bmid, nfl, bfl, nv, bv, ?_, hres⟩
      have hne2 : ¬ (s_lt p5 w ↔ s_lt fl w) := fun u => y (eqz.mpr u)
      by_cases u1 : s_lt fl w
      · exact ⟨fun _ u2 => hne2 ⟨fun _ => u1, fun _ => u2⟩, fun _ => u1⟩
      · refine ⟨fun u2 => absurd u2 u1, fun u2 => absurd ⟨fun u3 => absurd u3 u2, fun u3 => absurd u3 u1⟩ hne2⟩
/-- a bracket seeks -/
theorem c_seeks {i c q : Nat} {w lo hi : UInt64} (hV : sOK A.1) (hI : cINV g x0 P hp σ A M) (hM : M + 10000000 ≤ 2147483647) (hq : ¬ cOv x0 P q) (hn : hp q = none) (hz : zB g ≤ q) (hi24 : i < 24) (hc : c < 24) (hw : s_B w) (nw : s_N w) (hl0 : s_B lo) (hh0 : s_B hi) (hd : 1380 ≤ d) {K : zHp → Nat → Prop}
    (hK : ∀ σ' hp1 fo th n br, cINV g x0 P hp1 σ' A (M + 10000000) → hLe hp hp1 → hp1 q = some (.inr (33, br)) → br[7]? = some (.double fo) → br[8]? = some (.double th) → br[9]? = some (.int (nI n)) → n ≤ 42 → cFd (s_seek (s_vb A.1 i c) w lo hi).1 fo th → n = (s_seek (s_vb A.1 i c) w lo hi).2 → K (cput g x0 P σ' hp1) nx) : zMtW l g yX33_seeks cX33_seeks 4 none [(8, 30, 176, 0), (39, 61, 176, 0), (70, 165, 176, 0)] d 0 0 [.ref q] (cput g x0 P σ (cBh P x0 i c hp q w lo hi 0 0 cNaN cNaN 0)) nx (zQv g K) := by
  obtain ⟨d, rfl⟩ := Nat.exists_eq_add_of_le' (show 1 ≤ d by omega)
  have i1 := hI.1
  have i3 := hI.2.2.1
  have i10 := hI.2.2.2.2.2.2.2.2.2
  obtain ⟨f, ef⟩ : ∃ f, f = s_vb A.1 i c := ⟨_, rfl⟩
  have fN : ∀ x, s_B x → s_N (f x).1 ∧ s_B (f x).1 := fun x hx => by rw [ef]; exact s_vb_N hV hc hx
  obtain ⟨res, eres⟩ : ∃ res, res = s_seek (s_vb A.1 i c) w lo hi := ⟨_, rfl⟩
  rw [← eres] at hK
  rw [← ef] at eres
  unfold s_seek at eres
  have W1 : ∀ {a b c' e fo th n}, cW g x0 P (cBh P x0 i c hp q w a b c' e fo th n) := fun {a b c' e fo th n} => cBh_W hq i1
  have T0 : cTr σ i σ M := ⟨i3, fun _ _ _ _ => rfl, i10, fun _ _ => rfl, rfl⟩
  /- what it had comes back -/
  have fin : ∀ (τ : cS) (M2 : Nat) (lo' h' fl fh fo th : UInt64) (n : Nat), cTr σ i τ M2 → M2 ≤ M + 192001 * n → n ≤ 42 → cFd res.1 fo th → n = res.2 → zgR (cput g x0 P τ (cBh P x0 i c hp q w lo' h' fl fh fo th n)) (some q) [33] 0 fun r_133 => zpt g (cput g x0 P τ (cBh P x0 i c hp q w lo' h' fl fh fo th n)) r_133 [2, 6, 7, 8, 9, 10] 2 (.double (σ.2.2.2.1 i)) fun hp_137 => K hp_137 nx := by
    rintro τ M2 lo' h' fl fh fo th n ⟨t2, t1, t3, t4, t5⟩ hM2 hn42 hf hnr
    rw [ch_R W1 cBh_s (k := 0) (r := some (P.1 i)) rfl (by decide), cc_pw W1 hi24]
    have hJ := c_tried (hI.mo (cBh_L hn) (W1 (a := lo') (b := h') (c' := fl) (e := fh) (fo := fo) (th := th) (n := n))) t2 t1 t3 t4 t5
    exact hK _ _ fo th n _ (cIV_tl hJ (by omega)) (cBh_L hn) cBh_s rfl rfl rfl hn42 hf hnr
  apply met_X33_seeks
  unfold wp_X33_seeks
  rw [ch_R W1 cBh_s (k := 0) (r := some (P.1 i)) rfl (by decide), cc_w W1 hi24, ch_D W1 cBh_s (k := 3) (x := lo) rfl (by decide), ch_o W1 cBh_s (by decide)]
  refine c_of hV hI hq hn hz hi24 hc hl0 T0 (by omega) (by omega) (fun v1 τ1 T1 e1 vB1 w1 => ?_)
  rw [← ef] at e1 w1
  rw [hz_p (cput_h W1 cBh_s) (by decide) (by show 5 < 11; decide)]
  refine ⟨hz, ?_⟩
  rw [cBh_u hq]
  have eS1 : va_up hp q (some (.inr (33, (cBr P x0 i c w lo hi 0 0 cNaN cNaN (0 + 1)).set 5 (.double v1)))) = cBh P x0 i c hp q w lo hi v1 0 cNaN cNaN 1 := rfl
  rw [eS1]
  rw [ch_R W1 cBh_s (k := 10) (r := some x0) rfl (by decide), cg_fault, e1]
  refine ⟨fun z1 => ?_, fun z1 => ?_⟩
  rotate_left
  · rw [if_pos z1] at eres
    exact fin τ1 _ lo hi v1 0 cNaN cNaN 1 T1 (by omega) (by omega) (Or.inl ⟨by rw [eres], rfl, rfl⟩) (by rw [eres])
  rw [if_neg (fun y => y z1)] at eres
  have w1 := w1 z1
  obtain ⟨n1, b1⟩ := fN lo hl0
  rw [← w1] at n1 b1 eres
  rw [ch_D W1 cBh_s (k := 4) (x := hi) rfl (by decide), ch_o W1 cBh_s (by decide)]
  refine c_of hV hI hq hn hz hi24 hc hh0 T1 (by omega) (by omega) (fun v2 τ2 T2 e2 vB2 w2 => ?_)
  rw [← ef] at e2 w2
  rw [hz_p (cput_h W1 cBh_s) (by decide) (by show 6 < 11; decide)]
  refine ⟨hz, ?_⟩
  rw [cBh_u hq]
  have eS2 : va_up hp q (some (.inr (33, (cBr P x0 i c w lo hi v1 0 cNaN cNaN (1 + 1)).set 6 (.double v2)))) = cBh P x0 i c hp q w lo hi v1 v2 cNaN cNaN 2 := rfl
  rw [eS2]
  rw [ch_R W1 cBh_s (k := 10) (r := some x0) rfl (by decide), cg_fault, e2]
  refine ⟨fun z2 => ?_, fun z2 => ?_⟩
  rotate_left
  · rw [if_pos z2] at eres
    exact fin τ2 _ lo hi v1 v2 cNaN cNaN 2 T2 (by omega) (by omega) (Or.inl ⟨by rw [eres], rfl, rfl⟩) (by rw [eres])
  rw [if_neg (fun y => y z2)] at eres
  have w2 := w2 z2
  obtain ⟨n2, b2⟩ := fN hi hh0
  rw [← w2] at n2 b2 eres
  rw [ch_D W1 cBh_s (k := 5) (x := v1) rfl (by decide), ch_D W1 cBh_s (k := 2) (x := w) rfl (by decide)]
  refine ⟨fun v hh n => v = σ.2.2.2.1 i ∧ nx = n ∧ ∃ τ M2 lo' h' fl fh fo th n', hh = cput g x0 P τ (cBh P x0 i c hp q w lo' h' fl fh fo th n') ∧ cTr σ i τ M2 ∧ M2 ≤ M + 192001 * n' ∧ n' ≤ 42 ∧ cFd res.1 fo th ∧ n' = res.2, ?_, fun y => ?_, fun y => ?_⟩
  · rintro v hh n ⟨rfl, rfl, τ, M2, lo', h', fl, fh, fo, th, n', rfl, q1, q2, q3, q4, q5⟩
    exact fin τ M2 lo' h' fl fh fo th n' q1 q2 q3 q4 q5
  · have ev := fb_same n1 nw (fc_l0.mp y)
    rw [s_if_p (fc_l0.mp y)] at eres
    rw [ch_D W1 cBh_s (k := 3) (x := lo) rfl (by decide), ch_D W1 cBh_s (k := 5) (x := v1) rfl (by decide), ch_o W1 cBh_s (by decide)]
    exact c_finds i1 hq hz (by omega) ⟨rfl, rfl, τ2, _, _, _, _, _, _, _, 2, rfl, T2, by omega, by omega, Or.inr ⟨_, by rw [eres], rfl, ev⟩, by rw [eres]⟩
  rw [s_if_n (fun z => y (fc_l0.mpr z))] at eres
  rw [ch_D W1 cBh_s (k := 6) (x := v2) rfl (by decide), ch_D W1 cBh_s (k := 2) (x := w) rfl (by decide)]
  refine ⟨fun y2 => ?_, fun y2 => ?_⟩
  · have ev := fb_same n2 nw (fc_l0.mp y2)
    rw [s_if_p (fc_l0.mp y2)] at eres
    rw [ch_D W1 cBh_s (k := 4) (x := hi) rfl (by decide), ch_D W1 cBh_s (k := 6) (x := v2) rfl (by decide), ch_o W1 cBh_s (by decide)]
    exact c_finds i1 hq hz (by omega) ⟨rfl, rfl, τ2, _, _, _, _, _, _, _, 2, rfl, T2, by omega, by omega, Or.inr ⟨_, by rw [eres], rfl, ev⟩, by rw [eres]⟩
  rw [s_if_n (fun z => y2 (fc_l0.mpr z))] at eres
  rw [ch_D W1 cBh_s (k := 5) (x := v1) rfl (by decide), ch_D W1 cBh_s (k := 2) (x := w) rfl (by decide)]
  refine ⟨fun v z1 hh n => v = σ.2.2.2.1 i ∧ ((z1 = 1 ∧ s_lt v1 w) ∨ (z1 = 0 ∧ ¬ s_lt v1 w)) ∧ hh = cput g x0 P τ2 (cBh P x0 i c hp q w lo hi v1 v2 cNaN cNaN 2) ∧ nx = n, ?_, fun u => ⟨rfl, Or.inr ⟨rfl, fc_gle.mp u⟩, rfl, rfl⟩, fun u => ⟨rfl, Or.inl ⟨rfl, Classical.not_not.mp (fun u2 => u (fc_gle.mpr u2))⟩, rfl, rfl⟩⟩
  rintro v z1 hh n ⟨rfl, hz1, rfl, rfl⟩
  rw [ch_D W1 cBh_s (k := 6) (x := v2) rfl (by decide), ch_D W1 cBh_s (k := 2) (x := w) rfl (by decide)]
  refine ⟨fun v z3 z4 hh n => v = σ.2.2.2.1 i ∧ z3 = z1 ∧ ((z4 = 1 ∧ s_lt v2 w) ∨ (z4 = 0 ∧ ¬ s_lt v2 w)) ∧ hh = cput g x0 P τ2 (cBh P x0 i c hp q w lo hi v1 v2 cNaN cNaN 2) ∧ nx = n, ?_, fun u => ⟨rfl, rfl, Or.inr ⟨rfl, fc_gle.mp u⟩, rfl, rfl⟩, fun u => ⟨rfl, rfl, Or.inl ⟨rfl, Classical.not_not.mp (fun u2 => u (fc_gle.mpr u2))⟩, rfl, rfl⟩⟩
  rintro v z3 z4 hh n ⟨rfl, rfl, hz4, rfl, rfl⟩
  have eqz : z3 = z4 ↔ (s_lt v1 w ↔ s_lt v2 w) := by
    rcases hz1 with ⟨rfl, y1⟩ | ⟨rfl, y1⟩ <;> rcases hz4 with ⟨rfl, y2⟩ | ⟨rfl, y2⟩
    · exact ⟨fun _ => ⟨fun _ => y2, fun _ => y1⟩, fun _ => rfl⟩
    · exact ⟨fun u => absurd u (by decide), fun u => absurd (u.mp y1) y2⟩
    · exact ⟨fun u => absurd u (by decide), fun u => absurd (u.mpr y2) y1⟩
    · exact ⟨fun _ => ⟨fun u => absurd u y1, fun u => absurd u y2⟩, fun _ => rfl⟩
  refine ⟨fun u => ?_, fun u => ?_⟩
  · rw [s_if_p (eqz.mp u)] at eres
    exact ⟨rfl, rfl, τ2, _, _, _, _, _, _, _, 2, rfl, T2, by omega, by omega, Or.inl ⟨by rw [eres], rfl, rfl⟩, by rw [eres]⟩
  · have hne : ¬ (s_lt v1 w ↔ s_lt v2 w) := fun y => u (eqz.mpr y)
    rw [s_if_n hne] at eres
    rw [ch_o W1 cBh_s (by decide)]
    refine c_closesIn hV hI hM hq hn hz hi24 hc hw hl0 hh0 n1 b1 n2 b2 ?_ T2 (by omega) (by omega) (fun lo' h' fl fh fo th n τ' M2 q1 q2 q3 q4 q5 => ?_)
    · by_cases u1 : s_lt v1 w
      · exact ⟨fun _ u2 => hne ⟨fun _ => u2, fun _ => u1⟩, fun _ => u1⟩
      · refine ⟨fun u2 => absurd u2 u1, fun u2 => absurd ⟨fun u3 => absurd u3 u1, fun u3 => absurd u3 u2⟩ hne⟩
    · rw [← ef, ← eres] at q4 q5
      exact ⟨rfl, rfl, τ', M2, lo', h', fl, fh, fo, th, n, rfl, q1, q2, q3, q4, q5⟩
theorem zNn_33 : zNn 33 = 11 := by decide +kernel
theorem zNf_33 : zNf 33 = [va_rf none, .int 0, .double 0, .double 0, .double 0, .double 0, .double 0, .double 0, .double 0, .int 0, va_rf none] := by decide +kernel
theorem x33 {q i c : Nat} {w lo hi : UInt64} (hW : cW g x0 P hp) (hq : ¬ cOv x0 P q) (hz : zB g ≤ q) (hd : 1 ≤ d) {K : zHp → Nat → Prop} (hK : K (cput g x0 P σ (cBh P x0 i c hp q w lo hi 0 0 cNaN cNaN 0)) nx) : zMt l g yX33_init cX33_init 10 none d 0 0 [.ref q, va_rf (some x0), va_rf (some (P.1 i)), .int (nI c), .double lo, .double hi, .double w] (cput g x0 P σ (va_up hp q (some (.inr (33, zNf 33))))) nx (zQv g K) := by
  obtain ⟨d, rfl⟩ := Nat.exists_eq_add_of_le' (show 1 ≤ d by omega)
  have st : ∀ {l : List Value} {v : Value} {k : Nat} {Q : zHp → Prop}, k < l.length → Q (cput g x0 P σ (va_up hp q (some (.inr (33, l.set k v))))) → zpt g (cput g x0 P σ (va_up hp q (some (.inr (33, l))))) (some q) [33] k v Q := by
    intro l v k Q hk hQ
    rw [hz_p (cput_h (cW_hq hq hW) va_s) (by decide) hk]
    refine ⟨hz, ?_⟩
    rw [c_put2 hq]
    exact hQ
  apply met_X33_init
  unfold wp_X33_init
  rw [zNf_33]
  refine st (by simp) (st (by simp) (st (by simp) (st (by simp) (st (by simp) (st (by simp) (st (by simp) (st (by simp) ?_)))))))
  exact hK
/-- seek -/
theorem c_in1 {x a : Int32} {A : Int64} {b : Int32} {B : Int64} (hA : A = a.toInt64 + 1) (hB : B = b.toInt64) (hd : 1 ≤ d) {K : Int32 → zHp → Nat → Prop} (h0 : (x ≤ a ∨ b < x) → K 0 hp nx) (h1 : ¬ (x ≤ a ∨ b < x) → K 1 hp nx) : zMt l g yX0_in cX0_in 6 (some .boolean) d 0 0 [.long x.toInt64, .long A, .long B] hp nx (zQi g K) := by
  obtain ⟨d, rfl⟩ := Nat.exists_eq_add_of_le' (show 1 ≤ d by omega)
  have e1 : (lg_cmp x.toInt64 A) < 0 ↔ x ≤ a := by
    have hlo := a.le_toInt
    have hhi := a.toInt_le
    have e0 : (a.toInt64 + 1).toInt = a.toInt + 1 := by
      rw [Int64.toInt_add, Int32.toInt_toInt64, show (1 : Int64).toInt = 1 by decide]
      have em : Int32.maxValue.toInt = 2147483647 := by decide
      rw [em] at hhi
      exact Int.bmod_eq_of_le (by omega) (by omega)
    rw [lg_cmp_lt, hA, Int64.lt_iff_toInt_lt, e0, Int32.le_iff_toInt_le, Int32.toInt_toInt64]
    omega
  have e2 : 0 < (lg_cmp x.toInt64 B) ↔ b < x := by
    rw [lg_cmp_gt, hB, Int64.lt_iff_toInt_lt, Int32.lt_iff_toInt_lt, Int32.toInt_toInt64, Int32.toInt_toInt64]
  apply met_X0_in
  unfold wp_X0_in
  refine ⟨_, fun _ h => h, ?_⟩
  refine ⟨x ≤ a ∨ b < x, fun z => ⟨Or.inl rfl, h0 z⟩, fun z => Or.inl (e1.mp z), fun z => ⟨fun y => Or.inr (e2.mp y), fun y => ⟨Or.inr rfl, h1 (fun w => w.elim (fun q => z (e1.mpr q)) (fun q => y (e2.mpr q)))⟩⟩⟩
theorem co_seek (hV : sOK A.1) (hI : cINV g x0 P hp σ A M) (hM : M + 10000000 ≤ 2147483647) (hd : 1400 ≤ d) (hmc : 1 ≤ mc) (hms : 11 ≤ ms) {x y low high want part : Int32} {K : Int64 → zHp → Nat → Prop} (hK : ∀ σ' hp' nx', cINV g x0 P hp' σ' A (M + 10000000) → hLe hp hp' → nx ≤ nx' → K (o_seek A x y low high want part) (cput g x0 P σ' hp') nx') : zMt l g yX0_seek cX0_seek 10 (some .long) d mc ms [.ref x0, .int x, .int y, .int low, .int high, .int want, .int part] (cput g x0 P σ hp) nx (zQl g K) := by
  obtain ⟨d, rfl⟩ := Nat.exists_eq_add_of_le' (show 1 ≤ d by omega)
  have hI' := hI
  obtain ⟨i1, i2, i3, i4, i5, i6, i7, i8, i9, i10⟩ := hI
  have h0 := hK σ hp nx (cIV_tl hI' (by omega)) hLe.rf (Nat.le_refl _)
  apply met_X0_seek
  unfold wp_X0_seek
  refine ⟨Nat.zero_le _, Nat.zero_le _, ?_⟩
  have m72 : ∀ h n kc ks, (o_seek A x y low high want part = -2 ∧ h = cput g x0 P σ hp ∧ nx = n ∧ kc = 0 ∧ ks = 0) → kc ≤ mc ∧ ks ≤ ms ∧ K (-2) h n := by
    rintro h n kc ks ⟨e, rfl, rfl, rfl, rfl⟩
    rw [e] at h0
    exact ⟨Nat.zero_le _, Nat.zero_le _, h0⟩
  refine c_isCell (by omega) (fun e1 => ?_) (fun i hi ex e1 => ?_)
  · exact ⟨fun h n kc ks => o_seek A x y low high want part = -2 ∧ h = cput g x0 P σ hp ∧ nx = n ∧ kc = 0 ∧ ks = 0, m72, fun _ => ⟨by unfold o_seek; rw [e1], rfl, rfl, rfl, rfl⟩, fun z => absurd rfl z⟩
  refine ⟨fun h n kc ks => o_seek A x y low high want part = -2 ∧ h = cput g x0 P σ hp ∧ nx = n ∧ kc = 0 ∧ ks = 0, m72, fun z => absurd z (by decide), fun _ => ⟨Nat.zero_le _, Nat.zero_le _, ?_⟩⟩
  subst ex
  refine c_isCell (by omega) (fun e2 => ?_) (fun c hc ey e2 => ?_)
  · exact ⟨fun _ => ⟨by unfold o_seek; rw [e1]; simp only [e2], rfl, rfl, rfl, rfl⟩, fun z => absurd rfl z⟩
  refine ⟨fun z => absurd z (by decide), fun _ => ⟨Nat.zero_le _, Nat.zero_le _, ?_⟩⟩
  subst ey
  have no : o_skb low high want part → (o_seek A (nI i) (nI c) low high want part = -2 ∧ cput g x0 P σ hp = cput g x0 P σ hp ∧ nx = nx ∧ 0 = 0 ∧ 0 = 0) := fun h => ⟨by unfold o_seek; rw [e1]; simp only [e2]; rw [s_if_p h], rfl, rfl, rfl, rfl⟩
  unfold o_skb at no
  refine c_inn (a := -80000) (b := 80000) (by decide) (by decide) (by omega) (fun z => ⟨fun _ => no (by rcases z with z | z; exact Or.inl z; exact Or.inr (Or.inl z)), fun w => absurd rfl w⟩) (fun h1 => ⟨fun w => absurd w (by decide), fun _ => ⟨Nat.zero_le _, Nat.zero_le _, ?_⟩⟩)
  refine c_in1 (a := low) (b := 80000) rfl (by decide) (by omega) (fun z => ⟨fun _ => no (by rcases z with z | z; exact Or.inr (Or.inr (Or.inr (Or.inr (Or.inl z)))); exact Or.inr (Or.inr (Or.inr (Or.inl z)))), fun w => absurd rfl w⟩) (fun h2 => ⟨fun w => absurd w (by decide), fun _ => ⟨Nat.zero_le _, Nat.zero_le _, ?_⟩⟩)
  refine c_inn (a := -80000) (b := 80000) (by decide) (by decide) (by omega) (fun z => ⟨fun _ => no (by rcases z with z | z; exact Or.inr (Or.inr (Or.inr (Or.inr (Or.inr (Or.inl z))))); exact Or.inr (Or.inr (Or.inr (Or.inr (Or.inr (Or.inr (Or.inl z))))))), fun w => absurd rfl w⟩) (fun h3 => ⟨fun w => absurd w (by decide), fun _ => ⟨Nat.zero_le _, Nat.zero_le _, ?_⟩⟩)
  refine c_inn (a := 0) (b := 2) (by decide) (by decide) (by omega) (fun z => ⟨fun _ => no (Or.inr (Or.inr (Or.inr (Or.inr (Or.inr (Or.inr (Or.inr z))))))), fun w => absurd rfl w⟩) (fun h4 => ⟨fun w => absurd w (by decide), fun _ => ?_⟩)
  clear no m72
  have nskb : ¬ o_skb low high want part := by
    rintro (q | q | q | q | q | q | q | q)
    · exact h1 (Or.inl q)
    · exact h1 (Or.inr q)
    · have : low < -80000 ∨ ¬ low < -80000 := Classical.em _
      rcases this with z | z
      · exact h1 (Or.inl z)
      · refine h2 (Or.inl ?_)
        rw [Int32.lt_iff_toInt_lt] at q z
        rw [Int32.le_iff_toInt_le]
        omega
    · exact h2 (Or.inr q)
    · exact h2 (Or.inl q)
    · exact h3 (Or.inl q)
    · exact h3 (Or.inr q)
    · exact h4 q
  have eo : o_seek A (nI i) (nI c) low high want part = (if A.1.1 i ≠ [] then -3
      else if part = 2 then (nI (s_seek (s_vb A.1 i c) (o_8 want) (o_8 low) (o_8 high)).2).toInt64
      else match (s_seek (s_vb A.1 i c) (o_8 want) (o_8 low) (o_8 high)).1 with
        | none => -1
        | some q => (if part = 0 then q.1 else q.2).toInt64) := by
    unfold o_seek; rw [e1]; simp only [e2]; rw [s_if_n nskb]
    by_cases hx9 : A.1.1 i ≠ []
    · rw [if_pos hx9, if_pos hx9]
    · rw [if_neg hx9, if_neg hx9]
      cases (s_seek (s_vb A.1 i c) (o_8 want) (o_8 low) (o_8 high)).1 <;> rfl
  rw [eo] at hK h0
  refine cRC (S := A.1) i6.1 hi ?_
  refine ⟨Nat.zero_le _, Nat.zero_le _, ?_⟩
  rw [cc_o i1 hi]
  refine ⟨fun q h n => ((q = 1 ∧ A.1.1 i = []) ∨ (q = 0 ∧ A.1.1 i ≠ [])) ∧ h = cput g x0 P σ hp ∧ nx = n, ?_, c_isIn (S := A.1) i1 i6.1 hi (by omega) (fun w => ⟨Or.inl ⟨rfl, w⟩, rfl, rfl⟩) (fun w => ⟨Or.inr ⟨rfl, w⟩, rfl, rfl⟩)⟩
  rintro q h n ⟨hq, rfl, rfl⟩
  refine ⟨fun w => ⟨Nat.zero_le _, Nat.zero_le _, ?_⟩, fun w => ?_⟩
  · have : A.1.1 i ≠ [] := by
      rcases hq with ⟨e, -⟩ | ⟨-, e⟩
      · rw [e] at w; exact absurd w (by decide)
      · exact e
    rw [if_pos this] at h0
    exact h0
  have hf : A.1.1 i = [] := by
    rcases hq with ⟨-, e⟩ | ⟨e, -⟩
    · exact e
    · exact absurd e w
  rw [if_neg (fun z => z hf)] at hK
  clear h0
  refine c_nw i1 (by omega) (by rw [zNn_33]; omega) (fun u1 u2 u3 u4 => ?_)
  rintro _ _ _ rfl rfl rfl
  rw [zNn_33]
  refine cRC (S := A.1) (i6.1.mo (hLe.up u2)) hi ?_
  have bl : s_B (o_8 low) := fb_8
  have bh : s_B (o_8 high) := fb_8
  have bw : s_B (o_8 want) := fb_8
  refine ⟨fb_nn bl, fb_nn bh, fb_nn bw, by omega, by omega, ?_⟩
  refine x33 i1 u1 u3 (by omega) ?_
  have W1 : ∀ {a b c' e fo th n w}, cW g x0 P (cBh P x0 i c hp nx w a b c' e fo th n) := fun {a b c' e fo th n w} => cBh_W u1 i1
  refine ⟨by omega, by omega, ?_⟩
  rw [ch_o W1 cBh_s (by decide)]
  refine c_seeks hV hI' hM u1 u2 u3 hi hc bw o8_N bl bh (by omega) (fun σ' hp1 fo th n br z1 z2 z3 z4 z5 z6 z7 z8 z9 => ?_)
  have hfin := hK σ' hp1 (nx + 1) z1 z2 (by omega)
  have w1 := z1.1
  refine ⟨fun e => ?_, fun e => ?_⟩
  · rw [ch_I w1 z3 z6 (by decide)]
    rw [if_pos e, ← z9] at hfin
    exact ⟨by omega, by omega, hfin⟩
  rw [if_neg e] at hfin
  have vv : ∀ v : UInt64, v = (if part = 0 then fo else th) → ((v = cNaN ∧ (s_seek (s_vb A.1 i c) (o_8 want) (o_8 low) (o_8 high)).1 = none) ∨ (s_B v ∧ ∃ q, (s_seek (s_vb A.1 i c) (o_8 want) (o_8 low) (o_8 high)).1 = some q ∧ v = (if part = 0 then q.1 else q.2))) := by
    intro v ev
    rcases z8 with ⟨r1, r2, r3⟩ | ⟨q, r1, r2, r3⟩
    · left
      rw [ev, r2, r3]
      exact ⟨by split <;> rfl, r1⟩
    · right
      have hB := s_seek_F (f := s_vb A.1 i c) (w := o_8 want) (low := o_8 low) (high := o_8 high) (fun x hx => (s_vb_N hV hc hx).2) bw bl bh q r1
      rw [ev, r2, r3]
      refine ⟨?_, q, r1, rfl⟩
      split
      · exact hB.1
      · exact hB.2
  refine ⟨fun _ v h n kc ks => v = (if part = 0 then fo else th) ∧ h = cput g x0 P σ' hp1 ∧ n = nx + 1 ∧ kc ≤ 1 ∧ ks ≤ 11, ?_, fun e0 => ?_, fun e0 => ?_⟩
  rotate_left
  · rw [ch_D w1 z3 z4 (by decide)]
    exact ⟨by rw [if_pos e0], rfl, rfl, by omega, by omega⟩
  · rw [ch_D w1 z3 z5 (by decide)]
    exact ⟨by rw [if_neg e0], rfl, rfl, by omega, by omega⟩
  rintro _ v h n kc ks ⟨ev, rfl, rfl, hkc, hks⟩
  have hv := vv v ev
  refine ⟨fun _ _ r h n kc ks => r = (match (s_seek (s_vb A.1 i c) (o_8 want) (o_8 low) (o_8 high)).1 with
        | none => -1
        | some q => (if part = 0 then q.1 else q.2).toInt64) ∧ h = cput g x0 P σ' hp1 ∧ n = nx + 1 ∧ kc ≤ 1 ∧ ks ≤ 11, ?_, fun e1 => ?_, fun e1 => ?_⟩
  · rintro _ _ r h n kc ks ⟨rfl, rfl, rfl, a1, a2⟩
    exact ⟨by omega, by omega, hfin⟩
  · rcases hv with ⟨e, -⟩ | ⟨hB, q, r1, r2⟩
    · rw [e] at e1; exact absurd (fc_l0.mp e1) cNaN_ne
    · refine ⟨by omega, by omega, t_dlb (by omega) hB.f ⟨?_, rfl, rfl, hkc, hks⟩⟩
      rw [r1, r2]
  · rcases hv with ⟨-, r1⟩ | ⟨hB, -⟩
    · exact ⟨by rw [r1], rfl, rfl, hkc, hks⟩
    · exact absurd (fc_l0.mpr (s_eq_B hB)) e1
end SE
