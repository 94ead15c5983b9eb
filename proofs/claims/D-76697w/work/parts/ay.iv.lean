set_option maxRecDepth 100000
/-! the component against the view: what holds between calls -/
section IV
variable {l : Launch} {g : zG} {d x0 : Nat} {P : cP} {σ σ' : cS} {hp : zHp} {nx M M' : Nat} {A : sV} {S : sSt}
/-- a sheet that stands, no program in sight -/
def sOK (S : sSt) : Prop := (∃ rk, s_rk S.1 S.2.1 rk) ∧ s_mo S.1 ∧ s_BF S.1 ∧ s_BL S.2.1 ∧ (∀ c, c < 24 → (S.1 c).length ≤ 96) ∧ s_BO S.2.2.2 ∧ sEx S
theorem sOK.st (h : sOK S) : ∃ rk, sST S.1 S.2.1 rk := by
  obtain ⟨⟨rk0, h0⟩, h1, h2, h3, h4, -⟩ := h
  obtain ⟨rk, hr, hb⟩ := s_rk_small h0 h1
  exact ⟨rk, hr, h1, hb, h2, h3, h4⟩
theorem sOK.mr (h : sOK S) : sMr S.1 := ⟨h.2.1, h.2.2.2.2.1⟩
theorem sOK.tm (h : sOK S) : ¬ s_tm S.1 S.2.1 := h.2.2.2.2.2.2.2.2.2.2
/-- the sheet as the component holds it -/
def cCS (g : zG) (x0 : Nat) (P : cP) (hp : zHp) (σ : cS) (S : sSt) : Prop := cS0 g x0 P hp σ.2.2.2.2 S.1 S.2.1 S.2.2.1 ∧ (∀ q, q < 30 → cWg σ.2.2.2.2 S.1 S.2.1 q) ∧ cOW S.1 S.2.2.1 σ.2.2.2.1 S.2.2.2 ∧ ∀ c, c < 24 → S.1 c ≠ [] → σ.2.2.2.1 c = cNaN
theorem cCS.sh (h : cCS g x0 P hp σ S) : cSH g x0 P hp σ.2.2.2.2 S.1 S.2.1 S.2.2.1 := ⟨h.1.1, h.1.2.1, h.1.2.2.1, h.1.2.2.2, fun c hc => ((h.2.1 c (by omega)).1 hc).1.2⟩
/-- the image -/
def cIm (g : zG) (x0 : Nat) (hp : zHp) (σ : cS) (o : Option sSt) : Prop := (σ.1 28 = 0 ∧ o = none) ∨ (σ.1 28 = 1 ∧ ∃ S, o = some S ∧ (∀ c, c < 24 → σ.2.2.2.2.1 24 c = S.2.2.1 c) ∧ (∀ c, c < 24 → cFm g x0 hp (σ.2.2.2.2.2.2.1 26 c) (S.1 c)) ∧ (∀ t, t < 6 → cLy g hp t (σ.2.2.2.2.2.2.1 27 t) (S.2.1 t)) ∧ cOW S.1 S.2.2.1 (σ.2.2.2.2.2.1 25) S.2.2.2 ∧ ∀ c, c < 24 → S.1 c ≠ [] → σ.2.2.2.2.2.1 25 c = cNaN)
/-- the tape -/
def cTp (σ : cS) (tp : List Nat) : Prop := σ.1 20 = nI tp.length ∧ tp.length ≤ 96 ∧ ∀ i b, tp[i]? = some b → b < 256 ∧ σ.2.2.2.2.1 19 i = (nI b).toInt8.toInt32
/-- a row's array -/
def cSo (s : Nat) : Nat := if s = 0 then 2 else if s = 1 then 0 else if s = 2 then 5 else 1
def cIt1 (s : Nat) (x : cAr) (i : Nat) (o : Option UInt64) : Prop := match x with
  | .inl f => (s = 0 ∨ s = 1) ∧ o = some (FP.i2d (f i)) ∧ (s = 0 → (f i).toInt8.toInt32 = f i)
  | .inr (.inr (.inl f)) => s = 2 ∧ o = some (FP.f2d (f i)) ∧ s_C (f i)
  | .inr (.inr (.inr (.inl f))) => s = 3 ∧ ((o = none ∧ f i = cNaN) ∨ (o = some (f i) ∧ s_B (f i)))
  | _ => False
/-- of what sort a row's array is -/
def cSx (s : Nat) (x : cAr) : Prop := match x with
  | .inl _ => s = 0 ∨ s = 1
  | .inr (.inr (.inl _)) => s = 2
  | .inr (.inr (.inr (.inl _))) => s = 3
  | _ => False
def cRw (P : cP) (σ : cS) (rw : Nat → Option sRw) : Prop := ∀ r, r < 4 → (rw r = none ∧ σ.2.2.2.2.2.2.2.2.2.1 r = none ∧ P.2.2 r = none) ∨ ∃ a q, rw r = some q ∧ σ.2.2.2.2.2.2.2.2.2.1 r = some a ∧ P.2.2 r = some (a, cSo q.1, q.2.length) ∧ q.1 ≤ 3 ∧ q.2.length ≤ 64 ∧ cSx q.1 (σ.2.2.2.2.2.2.2.2.2.2.2 r) ∧ ∀ i o, q.2[i]? = some o → cIt1 q.1 (σ.2.2.2.2.2.2.2.2.2.2.2 r) i o
/-- what holds between calls -/
def cINV (g : zG) (x0 : Nat) (P : cP) (hp : zHp) (σ : cS) (A : sV) (M : Nat) : Prop := cW g x0 P hp ∧ cIc g hp ∧ σ.2.1 = none ∧ cBk σ.2.2.2.2 ∧ cDw σ.2.2.2.2.2.2.2.2.1 ∧ cCS g x0 P hp σ A.1 ∧ cIm g x0 hp σ A.2.1 ∧ cTp σ A.2.2.1 ∧ cRw P σ A.2.2.2 ∧ cSt σ M
/-- telling leaves it -/
theorem cINV.tl (h : cINV g x0 P hp σ A M) (h1 : σ'.2.2.2 = σ.2.2.2) (h2 : σ'.2.1 = none) (h3 : ∀ k, k ≠ 2 → k ≠ 3 → k ≠ 10 → σ'.1 k = σ.1 k) (h4 : cSt σ' M') : cINV g x0 P hp σ' A M' := by
  obtain ⟨i1, i2, i3, i4, i5, i6, i7, i8, i9, i10⟩ := h
  refine ⟨i1, i2, h2, by rw [h1]; exact i4, by rw [h1]; exact i5, ?_, ?_, ?_, ?_, h4⟩
  · unfold cCS at i6 ⊢; rw [h1]; exact i6
  · unfold cIm at i7 ⊢; rw [h1, h3 28 (by decide) (by decide) (by decide)]; exact i7
  · unfold cTp at i8 ⊢; rw [h1, h3 20 (by decide) (by decide) (by decide)]; exact i8
  · unfold cRw at i9 ⊢; rw [h1]; exact i9
theorem cSt.le (h : cSt σ M) (hm : M ≤ M') : cSt σ M' := fun s hs => by
  obtain ⟨j, a, b⟩ := h s hs
  exact ⟨j, by omega, b⟩
theorem c_inn {x a b : Int32} {A B : Int64} (hA : A = a.toInt64) (hB : B = b.toInt64) (hd : 1 ≤ d) {K : Int32 → zHp → Nat → Prop} (h0 : (x < a ∨ b < x) → K 0 hp nx) (h1 : ¬ (x < a ∨ b < x) → K 1 hp nx) : zMt l g yX0_in cX0_in 6 (some .boolean) d 0 0 [.long x.toInt64, .long A, .long B] hp nx (zQi g K) := by
  obtain ⟨d, rfl⟩ := Nat.exists_eq_add_of_le' (show 1 ≤ d by omega)
  have e1 : (lg_cmp x.toInt64 A) < 0 ↔ x < a := by
    rw [lg_cmp_lt, hA, Int64.lt_iff_toInt_lt, Int32.lt_iff_toInt_lt, Int32.toInt_toInt64, Int32.toInt_toInt64]
  have e2 : 0 < (lg_cmp x.toInt64 B) ↔ b < x := by
    rw [lg_cmp_gt, hB, Int64.lt_iff_toInt_lt, Int32.lt_iff_toInt_lt, Int32.toInt_toInt64, Int32.toInt_toInt64]
  apply met_X0_in
  unfold wp_X0_in
  refine ⟨_, fun _ h => h, ?_⟩
  refine ⟨x < a ∨ b < x, fun z => ⟨Or.inl rfl, h0 z⟩, fun z => Or.inl (e1.mp z), fun z => ⟨fun y => Or.inr (e2.mp y), fun y => ⟨Or.inr rfl, h1 (fun w => w.elim (fun q => z (e1.mpr q)) (fun q => y (e2.mpr q)))⟩⟩⟩
theorem c_isCell {x : Int32} (hd : 2 ≤ d) {K : Int32 → zHp → Nat → Prop} (h0 : s_cx x = none → K 0 hp nx) (h1 : ∀ c, c < 24 → x = nI c → s_cx x = some c → K 1 hp nx) : zMt l g yX0_isCell cX0_isCell 1 (some .boolean) d 0 0 [.int x] hp nx (zQi g K) := by
  obtain ⟨d, rfl⟩ := Nat.exists_eq_add_of_le' (show 1 ≤ d by omega)
  apply met_X0_isCell
  unfold wp_X0_isCell
  refine c_inn (a := 0) (b := 23) (by decide) (by decide) (by omega) (fun z => ⟨Or.inl rfl, h0 (by unfold s_cx; rw [if_pos z])⟩) (fun z => ⟨Or.inr rfl, ?_⟩)
  rcases s_cx_of x with q | ⟨c, hc, e⟩
  · exact absurd q z
  · exact h1 c hc e (by rw [e]; exact s_cx_s hc)
theorem s_tx_s9 {t : Nat} (h : t < 6) : s_tx (nI t) = some t := by unfold s_tx; rw [if_neg (s_tx_n h), nI_clamp (by omega)]
theorem c_isTable {x : Int32} (hd : 2 ≤ d) {K : Int32 → zHp → Nat → Prop} (h0 : s_tx x = none → K 0 hp nx) (h1 : ∀ t, t < 6 → x = nI t → s_tx x = some t → K 1 hp nx) : zMt l g yX0_isTable cX0_isTable 1 (some .boolean) d 0 0 [.int x] hp nx (zQi g K) := by
  obtain ⟨d, rfl⟩ := Nat.exists_eq_add_of_le' (show 1 ≤ d by omega)
  apply met_X0_isTable
  unfold wp_X0_isTable
  refine c_inn (a := 0) (b := 5) (by decide) (by decide) (by omega) (fun z => ⟨Or.inl rfl, h0 (by unfold s_tx; rw [if_pos z])⟩) (fun z => ⟨Or.inr rfl, ?_⟩)
  rcases s_tx_of x with q | ⟨c, hc, e⟩
  · exact absurd q z
  · exact h1 c hc e (by rw [e]; exact s_tx_s9 hc)
theorem c_answer {v : UInt64} (hv : s_F v) (hd : 3 ≤ d) {K : Int64 → zHp → Nat → Prop} (hK : K (s_an v (σ.1 2)) (cput g x0 P σ hp) nx) : zMt l g yX0_answer cX0_answer 3 (some .long) d 0 0 [.ref x0, .double v] (cput g x0 P σ hp) nx (zQl g K) := by
  obtain ⟨d, rfl⟩ := Nat.exists_eq_add_of_le' (show 1 ≤ d by omega)
  apply met_X0_answer
  unfold wp_X0_answer
  rw [cg_fault]
  unfold s_an at hK
  refine ⟨_, fun _ _ _ h => h, ?_⟩
  refine ⟨fun z => ?_, fun z => ?_⟩
  · rw [if_pos z] at hK
    exact t_dlb (by omega) hv hK
  · rw [if_neg z] at hK
    rw [cg_fault]
    exact hK
/-- value -/
theorem co_value (hV : sOK A.1) (hI : cINV g x0 P hp σ A M) (hM : M + 10000000 ≤ 2147483647) (hd : 1400 ≤ d) {x : Int32} {K : Int64 → zHp → Nat → Prop} (hK : ∀ σ', cINV g x0 P hp σ' A (M + 10000000) → K (o_value A x) (cput g x0 P σ' hp) nx) : zMt l g yX0_value cX0_value 2 (some .long) d 0 0 [.ref x0, .int x] (cput g x0 P σ hp) nx (zQl g K) := by
  obtain ⟨d, rfl⟩ := Nat.exists_eq_add_of_le' (show 1 ≤ d by omega)
  obtain ⟨rk, hST⟩ := hV.st
  have hI' := hI
  obtain ⟨i1, i2, i3, i4, i5, i6, i7, i8, i9, i10⟩ := hI
  apply met_X0_value
  unfold wp_X0_value
  refine c_isCell (by omega) (fun e => ?_) (fun c hc ex e => ?_)
  · refine ⟨_, fun _ _ _ h => h, ?_⟩
    refine ⟨fun _ => ?_, fun z => absurd rfl z⟩
    have := hK σ (hI'.tl rfl i3 (fun _ _ _ _ => rfl) (i10.le (by omega)))
    unfold o_value at this
    rw [e] at this
    exact this
  · subst ex
    refine ⟨_, fun _ _ _ h => h, ?_⟩
    refine ⟨fun z => absurd z (by decide), fun _ => ?_⟩
    rw [cz_o]
    refine c_asked i1 i6.sh hST hV.tm hc i6.2.2.1 i10 (by omega) (by omega) (fun v σ1 a1 a2 a3 a4 a5 a6 a7 a8 => ?_)
    rw [cz_o]
    refine c_answer a7.f (by omega) ?_
    have := hK σ1 (hI'.tl a1 a2 a3 (a4.le (by omega)))
    unfold o_value at this
    rw [e] at this
    rw [a5]
    unfold s_an at this ⊢
    unfold s_val at this
    by_cases z : (s_EV A.1.1 A.1.2.1 A.1.2.2.1 A.1.2.2.2 c).2.1 = 0
    · simp only [if_pos z] at this
      rw [if_pos z, a8 z]
      exact this
    · simp only [if_neg z] at this
      rw [if_neg z]
      exact this
/-- what a cell is given -/
theorem cOW.up {fm : sF} {kd : Nat → Int32} {own : Nat → UInt64} {ow : sO} (h : cOW fm kd own ow) {c : Nat} {v : UInt64} (hv : s_B v) : cOW fm kd (va_up own c (s_kp (kd c) v)) (s_up ow c (some v)) := by
  refine ⟨fun x w hx => ?_, fun e he hf => ?_⟩
  · unfold s_up at hx
    by_cases q : x = c
    · rw [if_pos q] at hx; cases hx; exact hv
    · rw [if_neg q] at hx; exact h.1 x w hx
  · unfold s_up
    by_cases q : e = c
    · subst q
      rw [if_pos rfl, va_s]
      exact Or.inr ⟨v, rfl, rfl, hv⟩
    · rw [if_neg q, va_o q]
      exact h.2 e he hf
/-- would -/
theorem co_would (hV : sOK A.1) (hI : cINV g x0 P hp σ A M) (hM : M + 10000000 ≤ 2147483647) (hd : 1400 ≤ d) {x v y : Int32} {K : Int64 → zHp → Nat → Prop} (hK : ∀ σ', cINV g x0 P hp σ' A (M + 10000000) → K (o_would A x v y) (cput g x0 P σ' hp) nx) : zMtW l g yX0_would cX0_would 10 (some .long) [(59, 86, 96, 0), (96, 98, 96, 0)] d 0 0 [.ref x0, .int x, .int v, .int y] (cput g x0 P σ hp) nx (zQl g K) := by
  obtain ⟨d, rfl⟩ := Nat.exists_eq_add_of_le' (show 1 ≤ d by omega)
  obtain ⟨rk, hST⟩ := hV.st
  have hI' := hI
  obtain ⟨i1, i2, i3, i4, i5, i6, i7, i8, i9, i10⟩ := hI
  have h0 := hK σ (hI'.tl rfl i3 (fun _ _ _ _ => rfl) (i10.le (by omega)))
  apply met_X0_would
  unfold wp_X0_would
  refine c_isCell (by omega) (fun e => ?_) (fun c hc ex e => ?_)
  · refine ⟨fun hp1 nx1 => hp1 = cput g x0 P σ hp ∧ nx = nx1, ?_, fun _ => ⟨rfl, rfl⟩, fun z => absurd rfl z⟩
    rintro hp1 nx1 ⟨rfl, rfl⟩
    unfold o_would at h0
    rw [e] at h0
    exact h0
  · subst ex
    refine ⟨fun hp1 nx1 => (s_cx y = none ∨ (v < -8000000 ∨ 8000000 < v)) ∧ hp1 = cput g x0 P σ hp ∧ nx = nx1, ?_, fun z => absurd z (by decide), fun _ => ?_⟩
    · rintro hp1 nx1 ⟨hz, rfl, rfl⟩
      unfold o_would at h0
      rw [e] at h0
      simp only [] at h0
      by_cases q : v < -8000000 ∨ 8000000 < v
      · rw [if_pos q] at h0; exact h0
      · rw [if_neg q, hz.resolve_right q] at h0; exact h0
    refine c_isCell (by omega) (fun e2 => ?_) (fun u hu ey e2 => ?_)
    · exact ⟨fun _ => ⟨Or.inl e2, rfl, rfl⟩, fun z => absurd rfl z⟩
    · refine ⟨fun z => absurd z (by decide), fun _ => ?_⟩
      refine c_inn (a := -8000000) (b := 8000000) (by decide) (by decide) (by omega) (fun z => ⟨fun _ => ⟨Or.inr z, rfl, rfl⟩, fun w => absurd rfl w⟩) (fun z => ⟨fun w => absurd w (by decide), fun _ => ?_⟩)
      have cc : (nI c).toNatClampNeg = c := nI_clamp (by omega)
      rw [cg_cells, ca_cells]
      refine ⟨vp_in_nI hc (by decide), ?_⟩
      intro r e3
      have e3 : r = some (P.1 c) := by rw [e3, cc]; exact i6.1.1 c hc
      subst e3
      rw [cc_o i1 hc]
      have hF : (A.1.1 c = [] ∧ σ.2.2.2.2.2.2.2.2.2.2.1 c = none) ∨ (A.1.1 c ≠ [] ∧ σ.2.2.2.2.2.2.2.2.2.2.1 c ≠ none) := by
        rcases i6.1.2.2.1 c hc with ⟨q1, q2⟩ | ⟨a, root, nb, as, n, q1, q2, -⟩
        · exact Or.inl ⟨q1, q2⟩
        · exact Or.inr ⟨q1, fun z => by have := q2.symm.trans z; cases this⟩
      have eo : o_would A (nI c) v y = if A.1.1 c ≠ [] then -3 else s_an (s_val (s_ow A.1 (s_up A.1.2.2.2 c (some (o_8 v)))) u).1 (s_val (s_ow A.1 (s_up A.1.2.2.2 c (some (o_8 v)))) u).2.1 := by
        unfold o_would
        rw [e]
        simp only []
        rw [if_neg z, e2]
      refine ⟨fun q hp1 nx1 => ((q = 1 ∧ A.1.1 c = []) ∨ (q = 0 ∧ A.1.1 c ≠ [])) ∧ hp1 = cput g x0 P σ hp ∧ nx = nx1, ?_, c_isInput (by omega) i1 hc (fun w => ⟨Or.inl ⟨rfl, ?_⟩, rfl, rfl⟩) (fun w => ⟨Or.inr ⟨rfl, ?_⟩, rfl, rfl⟩)⟩
      rotate_left
      · rcases hF with q | q
        · exact q.1
        · exact absurd w q.2
      · rcases hF with q | q
        · exact absurd q.2 w
        · exact q.1
      rintro q hp1 nx1 ⟨hq, rfl, rfl⟩
      refine ⟨fun w => ?_, fun w => ?_⟩
      · have hne : A.1.1 c ≠ [] := by
          rcases hq with hq | hq
          · rw [hq.1] at w; exact absurd w (by decide)
          · exact hq.2
        rw [eo, if_pos hne] at h0
        exact h0
      · have he : A.1.1 c = [] := by
          rcases hq with hq | hq
          · exact hq.2
          · exact absurd hq.1 w
        rw [cc_w i1 hc]
        have h8 : s_B (o_8 v) := fb_8
        refine ⟨fb_nn h8, ?_⟩
        rw [cc_o i1 hc]
        refine ⟨fun q hp1 nx1 => q = s_kp (A.1.2.2.1 c) (o_8 v) ∧ hp1 = cput g x0 P σ hp ∧ nx = nx1, ?_, c_kept (cput_c i1 hc) (i1.2.2.1 c hc).2.2.2 (by omega) h8 ⟨by rw [i6.1.2.1 c hc]; rfl, rfl, rfl⟩⟩
        rintro q hp1 nx1 ⟨rfl, rfl, rfl⟩
        rw [cc_pw i1 hc, cz_o, ey]
        refine c_asked (σ := cuO σ c (s_kp (A.1.2.2.1 c) (o_8 v))) i1 i6.sh hST hV.tm hu (i6.2.2.1.up h8) i10 (by omega) (by omega) (fun w σ1 a1 a2 a3 a4 a5 a6 a7 a8 => ?_)
        rw [cz_o]
        refine c_answer a7.f (by omega) ?_
        rw [cc_pw i1 hc]
        have hfin := hK (cuO σ1 c (σ.2.2.2.1 c)) (hI'.tl ?_ a2 a3 (show cSt σ1 _ from a4.le (by omega)))
        · rw [eo, if_neg (fun z => z he)] at hfin
          rw [a5]
          unfold s_an at hfin ⊢
          unfold s_val s_ow at hfin
          by_cases z : (s_EV A.1.1 A.1.2.1 A.1.2.2.1 (s_up A.1.2.2.2 c (some (o_8 v))) u).2.1 = 0
          · simp only [if_pos z] at hfin
            rw [if_pos z, a8 z]
            exact hfin
          · simp only [if_neg z] at hfin
            rw [if_neg z]
            exact hfin
        · have e5 : (cuO σ1 c (σ.2.2.2.1 c)).2.2.2 = (va_up σ1.2.2.2.1 c (σ.2.2.2.1 c), σ1.2.2.2.2) := rfl
          rw [e5, a1]
          show (va_up (va_up σ.2.2.2.1 c (s_kp (A.1.2.2.1 c) (o_8 v))) c (σ.2.2.2.1 c), σ.2.2.2.2) = σ.2.2.2
          rw [cva_uu, cva_id]
end IV
