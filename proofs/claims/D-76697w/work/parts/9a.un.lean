set_option maxRecDepth 100000
/-! THE REFERENCE's operations: table -/
section UN
variable {l : Launch} {g : zG} {d m0 : Nat} {τ τ' τm τ1 τ2 τ5 τ6 : tS} {hp : zHp} {nx : Nat}
theorem tai_o {k i c k' i' j : Nat} {v : Int32} (h : ¬ (k' = k ∧ i' = i ∧ j = c)) : (taI τ k i (va_up (τ.2.2.1 k i) c v)).2.2.1 k' i' j = τ.2.2.1 k' i' j := by
  by_cases hk : k' = k
  · subst hk
    by_cases hi : i' = i
    · subst hi; rw [tqa, va_o (by omega)]
    · rw [tqb hi]
  · rw [tqc hk]
theorem tai_s {k i c : Nat} {v : Int32} {f : Nat → Int32} : (taI τ k i (va_up f c v)).2.2.1 k i c = v := by rw [tqa, va_s]
theorem tad_o {k i c k' i' j : Nat} {v : UInt64} (h : ¬ (k' = k ∧ i' = i ∧ j = c)) : (taD τ k i (va_up (τ.2.2.2 k i) c v)).2.2.2 k' i' j = τ.2.2.2 k' i' j := by
  by_cases hk : k' = k
  · subst hk
    by_cases hi : i' = i
    · subst hi; rw [tqh, va_o (by omega)]
    · rw [tqi hi]
  · rw [tqj hk]
theorem tad_s {k i c : Nat} {v : UInt64} {f : Nat → UInt64} : (taD τ k i (va_up f c v)).2.2.2 k i c = v := by rw [tqh, va_s]
/-- a table is gone -/
theorem t_dr {t : Nat} (hI : tINV τ) (ht : t < 6) (hIm : ∀ k i j, ¬ (k = 6 ∧ i = 0 ∧ j = t) → τm.2.2.1 k i j = τ.2.2.1 k i j) (hDm : τm.2.2.2 = τ.2.2.2) (e6 : τm.2.2.1 6 0 t = 0) : (∃ rk, tOK rk τm) ∧ tfm τm = tfm τ ∧ tly τm = s_up (tly τ) t none ∧ tNm τm := by
  have en : tly τm t = none := tly_none.mp e6
  obtain ⟨⟨rk, hO⟩, hnb, hx⟩ := hI.1
  have less : ∀ u, s_up (tly τ) t (tly τm t) u = tly τ u ∨ s_up (tly τ) t (tly τm t) u = none := by
    intro u
    by_cases e : u = t
    · subst e; rw [s_up_s, en]; exact Or.inr rfl
    · rw [s_up_o e]; exact Or.inl rfl
  obtain ⟨ok, -, q2, q3⟩ := tSh_ly hI.1 ht (fun k i j _ a b => hIm k i j (by omega)) (fun k i j _ _ => by rw [hDm]) (Or.inl e6) (fun h => absurd e6 h) ⟨rk, s_rk_less hO.2.2.1 (fun _ => Or.inl rfl) less⟩ (fun L h => by rw [en] at h; cases h) (fun a j ha hj => by rw [hDm]; exact hnb.2 a j (by omega) hj) (fun L h => by rw [en] at h; cases h)
  rw [en] at q2
  exact ⟨ok, congrArg Prod.fst q2, congrArg (fun q => q.2.1) q2, q3 hI.2.1⟩
def s_nt (o a : Nat) (bb : Option Nat) (u v : UInt64) : sL := (o, a, bb, [u], if bb = none then [] else [v])
theorem s_nt_nc {o a : Nat} {bb : Option Nat} {u v : UInt64} : s_nc (s_nt o a bb u v) = 1 := by
  unfold s_nc s_my s_nt
  cases bb <;> simp
/-- what stands in b -/
def s_bb (b : Int32) (bb : Option Nat) : Prop := (b = -1 ∧ bb = none) ∨ ∃ y, y < 24 ∧ b = nI y ∧ b ≠ -1 ∧ bb = some y
def s_bx (b : Int32) : Option (Option Nat) := if b = -1 then some none else (s_cx b).map some
theorem s_bx_of (b : Int32) : (s_bx b = none ∧ b ≠ -1 ∧ (b < 0 ∨ 23 < b)) ∨ ∃ bb, s_bx b = some bb ∧ s_bb b bb := by
  unfold s_bx
  by_cases h : b = -1
  · rw [if_pos h]; exact Or.inr ⟨none, rfl, Or.inl ⟨h, rfl⟩⟩
  · rw [if_neg h]
    rcases s_cx_of b with q | ⟨y, hy, rfl⟩
    · exact Or.inl ⟨by unfold s_cx; rw [if_pos q]; rfl, h, q⟩
    · exact Or.inr ⟨some y, by rw [s_cx_s hy]; rfl, Or.inr ⟨y, hy, rfl, h, rfl⟩⟩
theorem s_rk_o {fm : sF} {ly : sY} {t : Nat} {L L' : sL} {rk : Nat → Nat} (e : L'.1 = L.1) (h : s_rk fm (s_up ly t (some L)) rk) : s_rk fm (s_up ly t (some L')) rk := by
  refine ⟨h.1, h.2.1, fun u hu M hM => ?_⟩
  by_cases q : u = t
  · subst q
    rw [s_up_s] at hM
    cases hM
    rw [e]
    exact h.2.2 u hu L (s_up_s ..)
  · rw [s_up_o q] at hM
    exact h.2.2 u hu M (by rw [s_up_o q]; exact hM)
/-- a table is laid -/
theorem tSh_nt {t o a : Nat} {b : Int32} {bb : Option Nat} (hI : tINV τ) (ht : t < 6) (ho : o < 24) (ha : a < 24) (hb : s_bb b bb) (hab : bb ≠ some a)
    (hIm : ∀ k i j, k < 14 → ¬ ((k = 6 ∨ k = 7 ∨ k = 8 ∨ k = 9) ∧ i = 0 ∧ j = t) → ¬ (k = 10 ∧ i = 0 ∧ (j = 2 * t ∨ j = 2 * t + 1)) → τm.2.2.1 k i j = τ.2.2.1 k i j)
    (hD : ∀ k i j, k < 14 → ¬ (k = 11 ∧ (i = 2 * t ∨ i = 2 * t + 1)) → τm.2.2.2 k i j = τ.2.2.2 k i j)
    (hAx : ∀ a j, (a = 2 * t ∨ a = 2 * t + 1) → j < 8 → s_B (τm.2.2.2 11 a j))
    (e6 : τm.2.2.1 6 0 t = 1) (e7 : τm.2.2.1 7 0 t = nI o) (e8 : τm.2.2.1 8 0 t = nI a) (e9 : τm.2.2.1 9 0 t = b) (e10 : τm.2.2.1 10 0 (2 * t) = 1) (e11 : τm.2.2.1 10 0 (2 * t + 1) = if b = -1 then 0 else 1)
    (hin : tfm τ a = [] ∧ ∀ y, bb = some y → tfm τ y = [])
    (hrk : ∃ rk, s_rk (tfm τ) (s_up (tly τ) t (some (s_nt o a bb 0 0))) rk) :
    (∃ rk, tOK rk τm) ∧ (¬ s_tm (tfm τ) (s_up (tly τ) t (some (s_nt o a bb (τm.2.2.2 11 (2 * t) 0) (τm.2.2.2 11 (2 * t + 1) 0)))) → tSh τm) ∧ tst τm = (tfm τ, s_up (tly τ) t (some (s_nt o a bb (τm.2.2.2 11 (2 * t) 0) (τm.2.2.2 11 (2 * t + 1) 0))), tkd τ, tow τ) ∧ (tNm τ → tNm τm) := by
  have en : tly τm t = some (s_nt o a bb (τm.2.2.2 11 (2 * t) 0) (τm.2.2.2 11 (2 * t + 1) 0)) := by
    unfold tly s_nt
    rw [if_neg (by rw [e6]; decide), e7, e8, e9, nI_clamp (by omega), nI_clamp (by omega)]
    have t1 : tax τm (2 * t) = [τm.2.2.2 11 (2 * t) 0] := by unfold tax; rw [e10]; rfl
    rw [t1]
    rcases hb with ⟨h, rfl⟩ | ⟨y, hy, h, hn, rfl⟩
    · rw [if_pos h, if_pos h, if_pos rfl]
    · have t2 : tax τm (2 * t + 1) = [τm.2.2.2 11 (2 * t + 1) 0] := by unfold tax; rw [e11, if_neg hn]; rfl
      rw [if_neg hn, if_neg hn, t2, h, nI_clamp (by omega), if_neg (fun q => by cases q)]
  have n1 : (1 : Int32) = nI 1 := rfl
  have main := tSh_ly (τ := τ) (τm := τm) hI.1 ht hIm hD (Or.inr e6) (fun _ => ⟨o, a, 1, ho, ha, by omega, by omega, e7, e8, e10, by
    rcases hb with ⟨h, -⟩ | ⟨y, hy, h, hn, rfl⟩
    · exact Or.inl (e9.trans h)
    · exact Or.inr ⟨y, 1, hy, fun q => hab (by rw [q]), by omega, by omega, e9.trans h, by rw [e11, if_neg hn]; rfl⟩⟩) (by
    obtain ⟨rk, h⟩ := hrk
    rw [en]
    exact ⟨rk, s_rk_o (L := s_nt o a bb 0 0) rfl h⟩) (fun L hL => by
    rw [en] at hL
    cases hL
    refine ⟨fun v hv => ?_, fun v hv => ?_, by rw [s_nt_nc]; omega⟩
    · rw [List.mem_singleton.mp hv]; exact hAx _ 0 (Or.inl rfl) (by omega)
    · have hv : v ∈ (if bb = none then [] else [τm.2.2.2 11 (2 * t + 1) 0]) := hv
      by_cases q : bb = none
      · rw [if_pos q] at hv; cases hv
      · rw [if_neg q] at hv; rw [List.mem_singleton.mp hv]; exact hAx _ 0 (Or.inr rfl) (by omega)) hAx (fun L hL => by
    rw [en] at hL
    cases hL
    exact hin)
  rw [en] at main
  exact main
noncomputable def o_table (A : sV) (x o a b : Int32) : Int32 × sV := match s_tx x with
  | none => (-2, A)
  | some t => match s_cx o with
    | none => (-2, A)
    | some oo => match s_cx a with
      | none => (-2, A)
      | some aa => match s_bx b with
        | none => (-2, A)
        | some bb => if bb = some aa then (-2, A) else s_if (A.1.1 aa = [] ∧ ∀ y, bb = some y → A.1.1 y = [])
          (s_if (∃ rk, s_rk A.1.1 (s_up A.1.2.1 t (some (s_nt oo aa bb 0 0))) rk) (o_lay A t (s_nt oo aa bb 0 0)) (-5, A)) (-3, A)
/-- laid, but for the second size -/
def tn5 (t o a : Nat) (b : Int32) (τ τ5 : tS) : Prop := τ5.1 = τ.1 ∧ τ5.2.1 = τ.2.1 ∧ τ5.2.2.2 = τ.2.2.2 ∧ (∀ k i j, ¬ ((k = 6 ∨ k = 7 ∨ k = 8 ∨ k = 9) ∧ i = 0 ∧ j = t) → ¬ (k = 10 ∧ i = 0 ∧ j = 2 * t) → τ5.2.2.1 k i j = τ.2.2.1 k i j) ∧ τ5.2.2.1 6 0 t = 1 ∧ τ5.2.2.1 7 0 t = nI o ∧ τ5.2.2.1 8 0 t = nI a ∧ τ5.2.2.1 9 0 t = b ∧ τ5.2.2.1 10 0 (2 * t) = 1
theorem to_table {x o a b : Int32} {K : Int32 → zHp → Nat → Prop} (hd : 200 ≤ d) (hB : zB g ≤ m0) (hI : tINV τ) (hK : ∀ τ', tINV τ' → tVw τ' = (o_table (tVw τ) x o a b).2 → K (o_table (tVw τ) x o a b).1 (tput g m0 τ' hp) nx) : zMt l g yX5_table cX5_table 12 (some .int) d 0 0 [.ref m0, .int x, .int o, .int a, .int b] (tput g m0 τ hp) nx (zQi g K) := by
  obtain ⟨d, rfl⟩ := Nat.exists_eq_add_of_le' (show 1 ≤ d by omega)
  apply met_X5_table
  unfold wp_X5_table
  unfold o_table at hK
  refine t_isTable' (by omega) ?_
  refine ⟨_, fun _ _ h => h, ?_⟩
  rcases s_tx_of x with hx | ⟨t, ht, rfl⟩
  · simp only [s_tx, if_pos hx] at hK ⊢
    exact ⟨fun _ => hK τ hI rfl, fun h => absurd (by trivial) h⟩
  simp only [s_tx_s ht] at hK
  rw [if_neg (s_tx_n ht)]
  refine ⟨fun h => absurd h (by decide), fun _ => ?_⟩
  refine t_isCell' (by omega) ?_
  rcases s_cx_of o with hx | ⟨o, ho, rfl⟩
  · simp only [s_cx, if_pos hx] at hK ⊢
    exact ⟨fun _ => hK τ hI rfl, fun h => absurd (by trivial) h⟩
  simp only [s_cx_s ho] at hK
  rw [if_neg (s_cx_n ho)]
  refine ⟨fun h => absurd h (by decide), fun _ => ?_⟩
  refine t_isCell' (by omega) ?_
  rcases s_cx_of a with hx | ⟨a, ha, rfl⟩
  · simp only [s_cx, if_pos hx] at hK ⊢
    exact ⟨fun _ => hK τ hI rfl, fun h => absurd (by trivial) h⟩
  simp only [s_cx_s ha] at hK
  rw [if_neg (s_cx_n ha)]
  refine ⟨fun h => absurd h (by decide), fun _ => ?_⟩
  refine ⟨fun h n' => h = tput g m0 τ hp ∧ nx = n' ∧ s_bx b ≠ none, fun h n' hh => ?_, fun hb => ⟨rfl, rfl, fun q => by unfold s_bx at q; rw [if_pos hb] at q; cases q⟩, fun hb => ?_⟩
  rotate_left
  · refine t_isCell' (by omega) ?_
    rcases s_bx_of b with ⟨q, _, q2⟩ | ⟨bb, q, q2⟩
    · rw [if_pos q2]
      rw [q] at hK
      exact ⟨fun _ => hK τ hI rfl, fun h => absurd rfl h⟩
    · rcases q2 with ⟨e, _⟩ | ⟨y, hy, e, _, _⟩
      · exact absurd e hb
      · rw [if_neg (by rw [e]; exact s_cx_n hy)]
        exact ⟨fun h => absurd h (by decide), fun _ => ⟨rfl, rfl, fun z => by rw [q] at z; cases z⟩⟩
  obtain ⟨rfl, rfl, hbn⟩ := hh
  obtain ⟨bb, hbx, hb⟩ : ∃ bb, s_bx b = some bb ∧ s_bb b bb := by
    rcases s_bx_of b with ⟨q, _⟩ | q
    · exact absurd q hbn
    · exact q
  rw [hbx] at hK
  simp only at hK
  have eab : nI a = b ↔ bb = some a := by
    rcases hb with ⟨rfl, rfl⟩ | ⟨y, hy, rfl, _, rfl⟩
    · exact ⟨fun q => absurd (show nI a < 0 by rw [q]; decide) (nI_pos (by omega)), fun q => by cases q⟩
    · exact ⟨fun q => by rw [(nI_eq (by omega) (by omega)).mp q], fun q => by cases q; rfl⟩
  by_cases hab : bb = some a
  · rw [if_pos hab] at hK
    exact ⟨fun _ => hK τ hI rfl, fun h => absurd (eab.mpr hab) h⟩
  rw [if_neg hab] at hK
  refine ⟨fun h => absurd (eab.mp h) hab, fun _ => ?_⟩
  rw [tw_zo]
  refine t_isInput' (by omega) ha ?_
  refine ⟨_, fun _ _ h => h, ?_⟩
  by_cases h3 : τ.2.2.1 3 0 a = 0
  rotate_left
  · rw [if_neg h3]
    rw [s_if_n (fun q => h3 ((hI.1.fmx ha).mpr q.1))] at hK
    exact ⟨fun _ => hK τ hI rfl, fun q => absurd rfl q⟩
  rw [if_pos h3]
  refine ⟨fun h => absurd h (by decide), fun _ => ?_⟩
  have fa := (hI.1.fmx ha).mp h3
  refine ⟨fun h n' => h = tput g m0 τ hp ∧ nx = n' ∧ ∀ y, bb = some y → tfm τ y = [], fun h n' hh => ?_, fun e => ⟨rfl, rfl, fun y q => ?_⟩, fun e => ?_⟩
  rotate_left
  · rcases hb with ⟨_, rfl⟩ | ⟨y, hy, _, q, _⟩
    · cases q
    · exact absurd e q
  · rcases hb with ⟨q, _⟩ | ⟨y, hy, rfl, q, rfl⟩
    · exact absurd q e
    · rw [tw_zo]
      refine t_isInput' (by omega) hy ?_
      by_cases h3 : τ.2.2.1 3 0 y = 0
      · rw [if_pos h3]
        exact ⟨fun q => absurd q (by decide), fun _ => ⟨rfl, rfl, fun z hz => by cases hz; exact (hI.1.fmx hy).mp h3⟩⟩
      · rw [if_neg h3]
        rw [s_if_n (fun q => h3 ((hI.1.fmx hy).mpr (q.2 y rfl)))] at hK
        exact ⟨fun _ => hK τ hI rfl, fun q => absurd rfl q⟩
  obtain ⟨rfl, rfl, fb⟩ := hh
  rw [s_if_p ⟨fa, fb⟩] at hK
  have ct : (nI t).toNatClampNeg = t := nI_clamp (by omega)
  have it : vp_in (nI t) 6 := vp_in_nI ht (by decide)
  have hB2 : ∀ n, zB g ≤ m0 + n := fun n => by omega
  have n0 : vp_nar .boolean 0 = 0 := by decide
  have n1 : vp_nar .boolean 1 = 1 := by decide
  obtain ⟨⟨rk, hO⟩, hnb, hx⟩ := hI.1
  have b6 : vp_nar .boolean (τ.2.2.1 6 0 t) = τ.2.2.1 6 0 t := by
    rcases hO.2.2.2.2.2.2.2.2 t ht with q | q <;> rw [q] <;> decide
  rw [tg_laid, ta_laid]
  refine ⟨it, fun x28 e28 => ?_⟩
  rw [ct] at e28
  subst e28
  rw [tg_laid, ta_laid]
  refine ⟨it, hB2 _, fun h36 e36 => ?_⟩
  rw [ct, n0, tu_laid] at e36
  subst e36
  obtain ⟨⟨rka, Oa⟩, fma, lya, nma⟩ := t_dr (τm := taI τ 6 0 (va_up (τ.2.2.1 6 0) t 0)) hI ht (fun k i j h => tai_o h) rfl tai_s
  have b1 : ∀ k, bs ((1 : Int32) <<< (nI o &&& 31)) k = true ↔ k = o := fun k => by rw [b_one (by omega)]; simp
  rw [tw_zo]
  refine t_comeTo (τ := taI τ 6 0 (va_up (τ.2.2.1 6 0) t 0)) (by omega) Oa.2.1 Oa.1.mo (fun c hc => ?_) nma (fun k hk => by have := (b1 k).mp hk; omega) fun S s1 s2 s3 => ?_
  · obtain ⟨n, hn, e3, _⟩ := Oa.1 c hc
    rw [tfm_len e3 hn]
    simpa using hn
  rw [fma, lya] at s2 s3
  have ere : taI (taI τ 6 0 (va_up (τ.2.2.1 6 0) t 0)) 6 0 (va_up ((taI τ 6 0 (va_up (τ.2.2.1 6 0) t 0)).2.2.1 6 0) t (τ.2.2.1 6 0 t)) = τ := by
    refine tS_ext (fun _ => rfl) (fun _ => rfl) (fun k i j => ?_) (fun _ _ _ => rfl)
    by_cases q : k = 6 ∧ i = 0 ∧ j = t
    · obtain ⟨rfl, rfl, rfl⟩ := q; exact tai_s
    · rw [tai_o q, tai_o q]
  have e24 : (24 : Int32) + nI t = nI (24 + t) := nI_add 24 t
  rw [e24]
  refine ⟨_, fun _ _ _ _ h => h, ?_⟩
  refine ⟨fun hS => ?_, fun hS => ?_⟩
  · have hS := (b_t1 (by omega)).mp hS
    rw [tg_laid, ta_laid]
    refine ⟨it, hB2 _, fun h36 e36 => ?_⟩
    rw [ct, b6, tu_laid, ere] at e36
    subst e36
    refine ⟨fun q => absurd q (by decide), fun _ => ?_⟩
    rw [s_if_n (fun ⟨rk', hr⟩ => s_tring_yes ht hr (S := fun k => bs S k = true) (fun P hP h1 => s3 P hP (fun k hk => by rw [(b1 k).mp hk]; exact h1)) hS)] at hK
    exact hK τ hI rfl
  have hS := fun q => hS ((b_t1 (by omega)).mpr q)
  have hrk : ∃ rk, s_rk (tfm τ) (s_up (tly τ) t (some (s_nt o a bb 0 0))) rk := s_tring_no hO.2.2.1 hO.2.2.2.1 hO.1.mo (S := fun k => bs S k = true) s2 ho (s1 o ((b1 o).mpr rfl)) hS
  have hrk' : ∃ rk, s_rk (tVw τ).1.1 (s_up (tVw τ).1.2.1 t (some (s_nt o a bb 0 0))) rk := hrk
  rw [s_if_p hrk'] at hK
  rw [tg_laid, ta_laid]
  refine ⟨it, hB2 _, fun h36 e36 => ?_⟩
  rw [ct, b6, tu_laid, ere] at e36
  subst e36
  refine ⟨fun _ => ?_, fun q => absurd rfl q⟩
  have e2 : (2 : Int32) * nI t = nI (2 * t) := pk_mul 2 t
  have c2 : (nI (2 * t)).toNatClampNeg = 2 * t := nI_clamp (by omega)
  have i2 : vp_in (nI (2 * t)) 12 := vp_in_nI (by omega) (by decide)
  have e21 : nI (2 * t) + 1 = nI (2 * t + 1) := nI_1 _
  have c21 : (nI (2 * t + 1)).toNatClampNeg = 2 * t + 1 := nI_clamp (by omega)
  have i21 : vp_in (nI (2 * t + 1)) 12 := vp_in_nI (by omega) (by decide)
  simp only [tg_outputs, ta_outputs, tu_outputs, tg_ones, ta_ones, tu_ones, tg_others, ta_others, tu_others, tg_axisSizes, ta_axisSizes, tu_axisSizes, tg_laid, ta_laid, tu_laid, ct, it, hB2, n1, e2, c2, i2, e21, c21, i21, true_implies, false_implies, implies_true, and_true, true_and, forall_eq]
  refine ⟨fun y1 y2 y3 y4 y5 y6 y7 r z1 z2 h n => y1 = τ.2.2.1 6 0 t ∧ y3 = τ.2.2.1 7 0 t ∧ y4 = τ.2.2.1 8 0 t ∧ y5 = τ.2.2.1 9 0 t ∧ y6 = τ.2.2.1 10 0 (2 * t) ∧ y7 = τ.2.2.1 10 0 (2 * t + 1) ∧ r = some (m0 + 59) ∧ z1 = nI (2 * t + 1) ∧ z2 = (if b = -1 then 0 else 1) ∧ nx = n ∧ ∃ τ5, h = tput g m0 τ5 hp ∧ tn5 t o a b τ τ5, ?_, ?_⟩
  rotate_left
  · have f5 : tn5 t o a b τ (taI (taI (taI (taI (taI τ 6 0 (va_up (τ.2.2.1 6 0) t 1)) 7 0 (va_up ((taI τ 6 0 (va_up (τ.2.2.1 6 0) t 1)).2.2.1 7 0) t (nI o))) 8 0 (va_up ((taI (taI τ 6 0 (va_up (τ.2.2.1 6 0) t 1)) 7 0 (va_up ((taI τ 6 0 (va_up (τ.2.2.1 6 0) t 1)).2.2.1 7 0) t (nI o))).2.2.1 8 0) t (nI a))) 9 0 (va_up ((taI (taI (taI τ 6 0 (va_up (τ.2.2.1 6 0) t 1)) 7 0 (va_up ((taI τ 6 0 (va_up (τ.2.2.1 6 0) t 1)).2.2.1 7 0) t (nI o))) 8 0 (va_up ((taI (taI τ 6 0 (va_up (τ.2.2.1 6 0) t 1)) 7 0 (va_up ((taI τ 6 0 (va_up (τ.2.2.1 6 0) t 1)).2.2.1 7 0) t (nI o))).2.2.1 8 0) t (nI a))).2.2.1 9 0) t b)) 10 0 (va_up ((taI (taI (taI (taI τ 6 0 (va_up (τ.2.2.1 6 0) t 1)) 7 0 (va_up ((taI τ 6 0 (va_up (τ.2.2.1 6 0) t 1)).2.2.1 7 0) t (nI o))) 8 0 (va_up ((taI (taI τ 6 0 (va_up (τ.2.2.1 6 0) t 1)) 7 0 (va_up ((taI τ 6 0 (va_up (τ.2.2.1 6 0) t 1)).2.2.1 7 0) t (nI o))).2.2.1 8 0) t (nI a))) 9 0 (va_up ((taI (taI (taI τ 6 0 (va_up (τ.2.2.1 6 0) t 1)) 7 0 (va_up ((taI τ 6 0 (va_up (τ.2.2.1 6 0) t 1)).2.2.1 7 0) t (nI o))) 8 0 (va_up ((taI (taI τ 6 0 (va_up (τ.2.2.1 6 0) t 1)) 7 0 (va_up ((taI τ 6 0 (va_up (τ.2.2.1 6 0) t 1)).2.2.1 7 0) t (nI o))).2.2.1 8 0) t (nI a))).2.2.1 9 0) t b)).2.2.1 10 0) (2 * t) 1)) := by
      refine ⟨rfl, rfl, rfl, fun k i j h1 h2 => ?_, ?_, ?_, ?_, ?_, tai_s⟩
      · rw [tai_o (by omega), tai_o (by omega), tai_o (by omega), tai_o (by omega), tai_o (by omega)]
      · rw [tai_o (by omega), tai_o (by omega), tai_o (by omega), tai_o (by omega), tai_s]
      · rw [tai_o (by omega), tai_o (by omega), tai_o (by omega), tai_s]
      · rw [tai_o (by omega), tai_o (by omega), tai_s]
      · rw [tai_o (by omega), tai_s]
    exact ⟨fun e => ⟨rfl, rfl, rfl, rfl, rfl, rfl, rfl, rfl, (if_pos e).symm, rfl, _, rfl, f5⟩, fun e => ⟨rfl, rfl, rfl, rfl, rfl, rfl, rfl, rfl, (if_neg e).symm, rfl, _, rfl, f5⟩⟩
  rintro _ _ _ _ _ _ _ _ _ _ _ _ ⟨rfl, rfl, rfl, rfl, rfl, rfl, rfl, rfl, rfl, rfl, τ5, rfl, g1, g2, g3, g4, g6, g7, g8, g9, g10⟩
  rw [ta_axisSizes]
  refine ⟨i21, hB2 _, ?_⟩
  rw [c21, tu_axisSizes]
  obtain ⟨τ6, h6⟩ : ∃ τ6, τ6 = taI τ5 10 0 (va_up (τ5.2.2.1 10 0) (2 * t + 1) (if b = -1 then 0 else 1)) := ⟨_, rfl⟩
  rw [← h6]
  have k1 : τ6.1 = τ.1 := by rw [h6]; exact g1
  have k2 : τ6.2.1 = τ.2.1 := by rw [h6]; exact g2
  have k3 : τ6.2.2.2 = τ.2.2.2 := by rw [h6]; exact g3
  have k4 : ∀ k i j, ¬ ((k = 6 ∨ k = 7 ∨ k = 8 ∨ k = 9) ∧ i = 0 ∧ j = t) → ¬ (k = 10 ∧ i = 0 ∧ (j = 2 * t ∨ j = 2 * t + 1)) → τ6.2.2.1 k i j = τ.2.2.1 k i j := fun k i j p q => by rw [h6, tai_o (by omega)]; exact g4 k i j p (by omega)
  have k6 : τ6.2.2.1 6 0 t = 1 := by rw [h6, tai_o (by omega)]; exact g6
  have k7 : τ6.2.2.1 7 0 t = nI o := by rw [h6, tai_o (by omega)]; exact g7
  have k8 : τ6.2.2.1 8 0 t = nI a := by rw [h6, tai_o (by omega)]; exact g8
  have k9 : τ6.2.2.1 9 0 t = b := by rw [h6, tai_o (by omega)]; exact g9
  have k10 : τ6.2.2.1 10 0 (2 * t) = 1 := by rw [h6, tai_o (by omega)]; exact g10
  have k11 : τ6.2.2.1 10 0 (2 * t + 1) = if b = -1 then 0 else 1 := by rw [h6, tai_s]
  clear h6 g1 g2 g3 g4 g6 g7 g8 g9 g10
  obtain ⟨⟨rk6, O6⟩, -, st6, nm6⟩ := tSh_nt (τm := τ6) hI ht ho ha hb hab (fun k i j _ p q => k4 k i j p q) (fun k i j _ _ => by rw [k3]) (fun a j _ hj => by rw [k3]; exact hnb.2 a j (by omega) hj) k6 k7 k8 k9 k10 k11 ⟨fa, fb⟩ hrk
  have efm : tfm τ6 = tfm τ := congrArg Prod.fst st6
  have ely := congrArg (fun q : sSt => q.2.1) st6
  have sim := s_sim_up (ly := tly τ) (t := t) (L := s_nt o a bb (τ6.2.2.2 11 (2 * t) 0) (τ6.2.2.2 11 (2 * t + 1) 0)) (L' := s_nt o a bb 0 0) rfl (by rw [s_nt_nc, s_nt_nc])
  have etm := s_tm_sim (fm := tfm τ) sim
  rw [tw_zo]
  refine t_isTooMuch (τ := τ6) (by omega) hB O6 (nm6 hI.2.1) fun τ7 f7 => ?_
  have ely : tly τ6 = _ := ely
  rw [efm, ely]
  unfold o_lay at hK
  have d0 : FP.dconst0 = 0 := by decide
  have l2 : 2 * t < 12 := by omega
  have l21 : 2 * t + 1 < 12 := by omega
  have c0 : (0 : Int32).toNatClampNeg = 0 := by decide
  have i0 : vp_in (0 : Int32) 8 := vp_in_nI (n := 0) (by decide) (by decide)
  have hB3 : ∀ a b n, zB g ≤ m0 + a + b + n := fun a b n => by omega
  by_cases htm : s_tm (tfm τ) (s_up (tly τ) t (some (s_nt o a bb (τ6.2.2.2 11 (2 * t) 0) (τ6.2.2.2 11 (2 * t + 1) 0))))
  · rw [s_if_p htm]
    have htm' : s_tm (tVw τ).1.1 (s_up (tVw τ).1.2.1 t (some (s_nt o a bb 0 0))) := etm.mp htm
    rw [s_if_p htm'] at hK
    refine ⟨fun h => absurd h (by decide), fun _ => ?_⟩
    simp only [tg_outputs, ta_outputs, tu_outputs, tg_ones, ta_ones, tu_ones, tg_others, ta_others, tu_others, tg_axisSizes, ta_axisSizes, tu_axisSizes, tg_laid, ta_laid, tu_laid, ct, it, hB2, b6, e2, c2, i2, e21, c21, i21, true_implies, false_implies, implies_true, and_true, true_and, forall_eq]
    have fr : ∀ τ9 : tS, τ9.1 = τ7.1 → τ9.2.2.2 = τ7.2.2.2 → (∀ k i j, ¬ ((k = 6 ∨ k = 7 ∨ k = 8 ∨ k = 9) ∧ i = 0 ∧ j = t) → ¬ (k = 10 ∧ i = 0 ∧ (j = 2 * t ∨ j = 2 * t + 1)) → τ9.2.2.1 k i j = τ7.2.2.1 k i j) → τ9.2.2.1 6 0 t = τ.2.2.1 6 0 t → τ9.2.2.1 7 0 t = τ.2.2.1 7 0 t → τ9.2.2.1 8 0 t = τ.2.2.1 8 0 t → τ9.2.2.1 9 0 t = τ.2.2.1 9 0 t → τ9.2.2.1 10 0 (2 * t) = τ.2.2.1 10 0 (2 * t) → τ9.2.2.1 10 0 (2 * t + 1) = τ.2.2.1 10 0 (2 * t + 1) → tsp τ τ9 := by
      intro τ9 j1 j3 j4 j6 j7 j8 j9 j10 j11
      refine ⟨by rw [j1, f7.1, k1], by rw [j1, f7.1, k1], fun k hk => funext fun i => funext fun j => ?_, fun k hk => by rw [j3, f7.2.2.1, k3]⟩
      by_cases p : (k = 6 ∨ k = 7 ∨ k = 8 ∨ k = 9) ∧ i = 0 ∧ j = t
      · obtain ⟨p | p | p | p, rfl, rfl⟩ := p <;> subst p <;> assumption
      · by_cases q : k = 10 ∧ i = 0 ∧ (j = 2 * t ∨ j = 2 * t + 1)
        · obtain ⟨rfl, rfl, q | q⟩ := q <;> subst q <;> assumption
        · rw [j4 k i j p q, f7.2.2.2 k (by omega) (by omega), k4 k i j p q]
    have fin : ∀ τ9, tsp τ τ9 → K (-4) (tput g m0 τ9 hp) nx := fun τ9 f => hK τ9 (f.inv hI) f.vw
    refine fin _ (fr _ rfl rfl (fun k i j p q => ?_) ?_ ?_ ?_ ?_ ?_ ?_)
    · rw [tai_o (by omega), tai_o (by omega), tai_o (by omega), tai_o (by omega), tai_o (by omega), tai_o (by omega)]
    · rw [tai_o (by omega), tai_o (by omega), tai_o (by omega), tai_o (by omega), tai_o (by omega), tai_s]
    · rw [tai_o (by omega), tai_o (by omega), tai_o (by omega), tai_o (by omega), tai_s]
    · rw [tai_o (by omega), tai_o (by omega), tai_o (by omega), tai_s]
    · rw [tai_o (by omega), tai_o (by omega), tai_s]
    · rw [tai_o (by omega), tai_s]
    · rw [tai_s]
  · rw [s_if_n htm]
    have htm0 := fun q => htm (etm.mpr q)
    have htm' : ¬ s_tm (tVw τ).1.1 (s_up (tVw τ).1.2.1 t (some (s_nt o a bb 0 0))) := htm0
    rw [s_if_n htm', s_nt_nc] at hK
    refine ⟨fun _ => ?_, fun h => absurd rfl h⟩
    simp only [tg_axes, ta_axes, e2, c2, i2, e21, c21, i21, tb_axes l2, tv_axes l2, tb_axes l21, tv_axes l21, c0, i0, hB3, d0, true_implies, false_implies, implies_true, and_true, true_and, forall_eq]
    have fin : ∀ τ9 : tS, τ9.1 = τ7.1 → τ9.2.2.1 = τ7.2.2.1 → (∀ k i j, ¬ (k = 11 ∧ (i = 2 * t ∨ i = 2 * t + 1) ∧ j = 0) → τ9.2.2.2 k i j = τ7.2.2.2 k i j) → τ9.2.2.2 11 (2 * t) 0 = 0 → τ9.2.2.2 11 (2 * t + 1) 0 = 0 → K 1 (tput g m0 τ9 hp) nx := by
      intro τ9 j1 j2 j3 j4 j5
      have jI : ∀ k, k ≠ 16 → k ≠ 17 → τ9.2.2.1 k = τ6.2.2.1 k := fun k p q => by rw [j2, f7.2.2.2 k p q]
      have main := tSh_nt (τm := τ9) hI ht ho ha hb hab (fun k i j h p q => by rw [jI k (by omega) (by omega)]; exact k4 k i j p q) (fun k i j _ q => by rw [j3 k i j (by omega), f7.2.2.1, k3]) (fun a j p hj => by
        by_cases e : j = 0
        · subst e
          rcases p with rfl | rfl
          · rw [j4]; exact fk_B0
          · rw [j5]; exact fk_B0
        · rw [j3 11 a j (by omega), f7.2.2.1, k3]; exact hnb.2 a j (by omega) hj) (by rw [jI 6 (by decide) (by decide)]; exact k6) (by rw [jI 7 (by decide) (by decide)]; exact k7) (by rw [jI 8 (by decide) (by decide)]; exact k8) (by rw [jI 9 (by decide) (by decide)]; exact k9) (by rw [jI 10 (by decide) (by decide)]; exact k10) (by rw [jI 10 (by decide) (by decide)]; exact k11) ⟨fa, fb⟩ hrk
      rw [j4, j5] at main
      obtain ⟨-, sh, st, nm⟩ := main
      obtain ⟨r1, r2⟩ := tINV_st hI (sh htm0) st (nm hI.2.1) (by rw [j1, f7.1, k1]) (by rw [j1, f7.1, k1]) (fun k hk => funext fun i => funext fun j => by rw [jI k (by omega) (by omega)]; exact k4 k i j (by omega) (by omega)) (fun k hk => funext fun i => funext fun j => by rw [j3 k i j (by omega), f7.2.2.1, k3])
      exact hK τ9 r1 r2
    refine fin _ rfl rfl (fun k i j q => ?_) ?_ ?_
    · rw [tad_o (by omega), tad_o (by omega)]
    · rw [tad_o (by omega), tad_s]
    · rw [tad_s]
end UN
