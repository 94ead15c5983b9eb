set_option maxRecDepth 100000
/-! THE REFERENCE's operations: tells -/
section UJ
variable {l : Launch} {g : zG} {d m0 : Nat} {τ τ' τm τ1 τ2 : tS} {hp : zHp} {nx : Nat}
theorem s_fo_congr {p q : Nat → Prop} : ∀ {n : Nat}, (∀ k, k < n → (p k ↔ q k)) → s_fo p n = s_fo q n := by
  intro n
  induction n with
  | zero => intro _; rfl
  | succ n ih =>
    intro h
    simp only [s_fo]
    rw [ih (fun k hk => h k (by omega)), s_if_iff (h n (by omega))]
theorem s_oth_congr {S : sSt} {L : sL} {it it' : Nat → Option UInt64} (h : ∀ k, k < s_nc L → it k = it' k) : s_oth S L it = s_oth S L it' := s_fo_congr fun k hk => by rw [h k hk]
noncomputable def o_tell (S : sSt) (L : sL) (it : Nat → Option UInt64) (c : Nat) (w : Int32) : Int32 := if w = 0 then s_io (s_oth S L it) else if w = 1 then s_kb S L it c else if w = 3 then s_lv (s_fo (s_np S L it c) 41) else nI (s_cn (s_np S L it c) 41)
theorem o_tell_congr {S : sSt} {L : sL} {it it' : Nat → Option UInt64} {c : Nat} {w : Int32} (h : ∀ k, k < s_nc L → it k = it' k) : o_tell S L it c w = o_tell S L it' c w := by
  have e : ∀ S', s_oth S' L it = s_oth S' L it' := fun S' => s_oth_congr h
  have e2 : s_np S L it c = s_np S L it' c := by funext i; unfold s_np; rw [e]
  unfold o_tell s_kb
  simp only [e, e2]
noncomputable def o_tells (A : sV) (x y z w : Int32) : Int32 := match s_tx x with
  | none => -2
  | some t => match s_rx y with
    | none => -2
    | some r => match s_cx z with
      | none => -2
      | some c => if w < 0 ∨ 3 < w then -2 else match A.1.2.1 t with
        | none => -3
        | some L => if 1 < w ∧ A.1.1 c ≠ [] then -3 else match A.2.2.2 r with
          | none => -11
          | some q => if q.1 ≠ 3 then -13 else if q.2.length ≠ s_nc L then -2 else o_tell A.1 L (fun k => q.2.getD k none) c w
theorem to_tells {x y z w : Int32} {K : Int32 → zHp → Nat → Prop} (hd : 200 ≤ d) (hB : zB g ≤ m0) (hI : tINV τ) (hK : ∀ τ', tINV τ' → tVw τ' = tVw τ → K (o_tells (tVw τ) x y z w) (tput g m0 τ' hp) nx) : zMt l g yX5_tells cX5_tells 5 (some .int) d 0 0 [.ref m0, .int x, .int y, .int z, .int w] (tput g m0 τ hp) nx (zQi g K) := by
  obtain ⟨d, rfl⟩ := Nat.exists_eq_add_of_le' (show 1 ≤ d by omega)
  apply met_X5_tells
  unfold wp_X5_tells
  unfold o_tells at hK
  refine t_isTable' (by omega) ?_
  refine ⟨_, fun _ _ h => h, ?_⟩
  rcases s_tx_of x with hx | ⟨t, ht, rfl⟩
  · simp only [s_tx, if_pos hx] at hK ⊢
    exact ⟨fun _ => hK τ hI rfl, fun h => absurd (by trivial) h⟩
  simp only [s_tx_s ht] at hK
  rw [if_neg (s_tx_n ht)]
  refine ⟨fun h => absurd h (by decide), fun _ => ?_⟩
  refine t_isRow' (by omega) ?_
  rcases s_rx_of y with hy | ⟨r, hr, rfl⟩
  · simp only [s_rx, if_pos hy] at hK ⊢
    exact ⟨fun _ => hK τ hI rfl, fun h => absurd (by trivial) h⟩
  simp only [s_rx_s hr] at hK
  rw [if_neg (s_rx_n hr)]
  refine ⟨fun h => absurd h (by decide), fun _ => ?_⟩
  refine t_isCell' (by omega) ?_
  rcases s_cx_of z with hz | ⟨c, hc, rfl⟩
  · simp only [s_cx, if_pos hz] at hK ⊢
    exact ⟨fun _ => hK τ hI rfl, fun h => absurd (by trivial) h⟩
  simp only [s_cx_s hc] at hK
  rw [if_neg (s_cx_n hc)]
  refine ⟨fun h => absurd h (by decide), fun _ => ?_⟩
  refine t_in' (by omega) ?_
  by_cases hw : w < 0 ∨ 3 < w
  · rw [if_pos hw] at hK ⊢
    exact ⟨fun _ => hK τ hI rfl, fun h => absurd (by trivial) h⟩
  rw [if_neg hw] at hK ⊢
  refine ⟨fun h => absurd h (by decide), fun _ => ?_⟩
  have ct : (nI t).toNatClampNeg = t := nI_clamp (by omega)
  have it : vp_in (nI t) 6 := vp_in_nI ht (by decide)
  have cr : (nI r).toNatClampNeg = r := nI_clamp (by omega)
  have ir : vp_in (nI r) 4 := vp_in_nI hr (by decide)
  have el : (tVw τ).1.2.1 t = tly τ t := rfl
  have er : (tVw τ).2.2.2 r = trw τ r := rfl
  rw [el, er] at hK
  rw [tg_laid, ta_laid]
  refine ⟨it, fun x6 hx6 => ?_⟩
  rw [ct] at hx6
  subst hx6
  refine ⟨_, fun _ _ h => h, ?_⟩
  refine ⟨fun h6 => ?_, fun h6 => ?_⟩
  · rw [tly_none.mp h6] at hK
    exact hK τ hI rfl
  obtain ⟨L, hL⟩ : ∃ L, tly τ t = some L := by
    cases hl : tly τ t with
    | none => exact absurd (tly_none.mpr hl) h6
    | some L => exact ⟨L, rfl⟩
  rw [hL] at hK
  simp only at hK
  obtain ⟨⟨rk, hO⟩, hnb, hx⟩ := hI.1
  have le_lt : ∀ a b : Int32, a ≤ b ↔ ¬ b < a := fun a b => by rw [Int32.le_iff_toInt_le, Int32.lt_iff_toInt_lt]; omega
  refine ⟨fun h n' => h = tput g m0 τ hp ∧ nx = n' ∧ ¬ (1 < w ∧ (tVw τ).1.1 c ≠ []), ?_, fun h => ⟨rfl, rfl, fun q => (le_lt _ _).mp h q.1⟩, fun h => ?_⟩
  · rintro _ _ ⟨rfl, rfl, hno⟩
    rw [if_neg hno] at hK
    simp only [tg_rows, ta_rows, tu_rows, cr, ir, true_implies, false_implies, implies_true, and_true, true_and, forall_eq]
    rcases tRo_of hI hr with h70 | ⟨s, n, hs, hn, h70, h71, h73, h72, h3⟩
    · rw [trw_none h70] at hK
      exact ⟨fun h => absurd h (by rw [h70]; decide), fun _ => hK τ hI rfl⟩
    · rw [trw_some hs hn h70 h71] at hK
      simp only [List.length_map, List.length_range] at hK
      refine ⟨fun _ => ?_, fun h => absurd (by rw [h70]; exact nI_pos' (by omega)) h⟩
      rw [h70]
      refine pk_eq s 3 (fun es => ?_) (fun es => ?_)
      · rw [if_neg (fun q => q es)] at hK
        simp only [tg_lengths, ta_lengths, tu_lengths, cr, ir, h71, true_implies, false_implies, implies_true, and_true, true_and, forall_eq, tw_zo]
        refine t_cases (L := L) (by omega) hO.2.1 ht hL ?_
        have hnc := (hO.2.2.2.2.2.1 t ht L hL).2.2
        refine pk_eq n (s_nc L) (fun en => ?_) (fun en => ?_)
        · rw [if_neg (fun q => q en)] at hK
          subst en
          have ec : o_tell (tVw τ).1 L (fun k => ((List.range (s_nc L)).map fun k => if τ.2.2.1 73 r k = 0 then some (τ.2.2.2 72 r k) else none).getD k none) c w = o_tell (tst τ) L (s_item (τ.2.2.1 73 r) (τ.2.2.2 72 r)) c w := o_tell_congr fun k hk => by
            rw [List.getD_eq_getElem?_getD, List.getElem?_map, List.getElem?_range hk]
            rfl
          rw [ec] at hK
          unfold o_tell at hK
          refine ⟨_, fun _ _ _ h => h, ?_⟩
          refine ⟨fun w0 => ?_, fun w0 => ⟨fun w1 => ?_, fun w1 => ?_⟩⟩
          · rw [if_pos w0] at hK
            rw [tw_zo]
            refine t_otherwise (L := L) (n := s_nc L) (by omega) hB hO ht hr hL h71 rfl h73 fun τ1 f1 => ?_
            exact tsp_vw_inv hI hK f1.sp
          · rw [if_neg w0, if_pos w1] at hK
            rw [tw_zo]
            refine t_kindsBy (L := L) (by omega) hB hO ht hr hc hL h71 h73 fun τ1 f1 => ?_
            exact tsp_vw_inv hI hK f1.sp
          · rw [if_neg w0, if_neg w1] at hK
            refine ⟨fun ra a b e f h n' => ra = some m0 ∧ a = nI t ∧ b = nI r ∧ e = nI c ∧ f = (if w = 3 then 1 else 0) ∧ h = tput g m0 τ hp ∧ nx = n', ?_, fun h => ⟨rfl, rfl, rfl, rfl, (if_pos h).symm, rfl, rfl⟩, fun h => ⟨rfl, rfl, rfl, rfl, (if_neg h).symm, rfl, rfl⟩⟩
            rintro _ _ _ _ _ _ _ ⟨rfl, rfl, rfl, rfl, rfl, rfl, rfl⟩
            rw [tw_zo]
            refine t_numbersBy (L := L) (by omega) hB hO hnb.1 ht hr hc hL h71 h73 fun τ1 f1 => ?_
            by_cases w3 : w = 3
            · rw [if_pos w3] at hK
              rw [if_pos w3, if_neg (by decide)]
              exact tsp_vw_inv hI hK f1.sp
            · rw [if_neg w3] at hK
              rw [if_neg w3, if_pos rfl]
              exact tsp_vw_inv hI hK f1.sp
        · rw [if_pos en] at hK
          exact hK τ hI rfl
      · rw [if_pos es] at hK
        exact hK τ hI rfl
  · have h1 : 1 < w := Classical.not_not.mp fun q => h ((le_lt _ _).mpr q)
    rw [tw_zo]
    refine t_isInput' (by omega) hc ?_
    by_cases h3 : τ.2.2.1 3 0 c = 0
    · rw [if_pos h3]
      exact ⟨fun q => absurd q (by decide), fun _ => ⟨rfl, rfl, fun q => q.2 ((hI.1.fmx hc).mp h3)⟩⟩
    · rw [if_neg h3]
      rw [if_pos ⟨h1, fun q => h3 ((hI.1.fmx hc).mpr q)⟩] at hK
      exact ⟨fun _ => hK τ hI rfl, fun q => absurd rfl q⟩
end UJ
