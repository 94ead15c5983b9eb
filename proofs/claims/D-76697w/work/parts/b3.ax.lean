set_option maxRecDepth 100000
/-! axis -/
section AX
variable {l : Launch} {g : zG} {d x0 : Nat} {P : cP} {σ σ' : cS} {hp hp' : zHp} {nx M M' : Nat} {A : sV} {S : sSt} {fm : sF} {ly : sY} {kd : Nat → Int32} {mc ms kc ks : Nat}
theorem c_isFixed {w t : Nat} (hW : cW g x0 P hp) (hS : cS0 g x0 P hp σ.2.2.2.2 fm ly kd) (ht : t < 6) (hw : w < 2) (hd : 1 ≤ d) {K : Int32 → zHp → Nat → Prop} (h1 : (ly t = none ∨ ∃ L, ly t = some L ∧ w = 1 ∧ L.2.2.1 = none) → K 1 (cput g x0 P σ hp) nx) (h0 : (∀ L, ly t = some L → ¬ (w = 1 ∧ L.2.2.1 = none) → K 0 (cput g x0 P σ hp) nx)) : zMt l g yX0_isFixed cX0_isFixed 3 (some .boolean) d 0 0 [.ref x0, .int (nI t), .int (nI w)] (cput g x0 P σ hp) nx (zQi g K) := by
  obtain ⟨d, rfl⟩ := Nat.exists_eq_add_of_le' (show 1 ≤ d by omega)
  have ct : (nI t).toNatClampNeg = t := nI_clamp (by omega)
  have it : vp_in (nI t) 6 := vp_in_nI ht (by decide)
  have hl := hS.2.2.2 t ht
  apply met_X0_isFixed
  unfold wp_X0_isFixed
  rw [cg_tables, ca_tables]
  refine ⟨it, ?_⟩
  intro r er
  rw [ct] at er
  rw [← er] at hl
  refine ⟨fun x => (x = 1 ∧ (ly t = none ∨ ∃ L, ly t = some L ∧ w = 1 ∧ L.2.2.1 = none)) ∨ (x = 0 ∧ ∃ L, ly t = some L ∧ ¬ (w = 1 ∧ L.2.2.1 = none)), ?_, ?_⟩
  · rintro x (⟨rfl, q⟩ | ⟨rfl, L, q1, q2⟩)
    · exact ⟨Or.inr rfl, h1 q⟩
    · exact ⟨Or.inl rfl, h0 L q1 q2⟩
  refine ⟨ly t = none ∨ ∃ L, ly t = some L ∧ w = 1 ∧ L.2.2.1 = none, fun q => Or.inl ⟨rfl, q⟩, fun z => ?_, fun z => ?_⟩
  · rcases hl with ⟨q, -⟩ | ⟨a, L, -, q, -⟩
    · exact Or.inl q
    · rw [z] at q; cases q
  obtain ⟨a, L, q1, q2, ⟨a1, r2, q3, -, q4⟩, -⟩ : ∃ a L, ly t = some L ∧ r = some a ∧ cTb g hp a t L ∧ cTk L := by
    rcases hl with ⟨-, q⟩ | q
    · exact absurd q z
    · exact q
  refine ⟨∃ L, ly t = some L ∧ ¬ (w = 1 ∧ L.2.2.1 = none), fun q => Or.inr ⟨rfl, q⟩, fun e => ?_, fun e => ⟨L, q1, fun y => e (by rw [y.1]; rfl)⟩⟩
  have ew : w = 1 := (nI_eq (by omega) (by omega)).mp e
  rw [cg_tables, ca_tables]
  refine ⟨it, ?_⟩
  intro r17 e17
  rw [ct, ← er, q2] at e17
  subst e17
  rw [ch_R hW q3 (r := r2) rfl (by decide)]
  refine ⟨fun y => Or.inr ⟨L, q1, ew, ?_⟩, fun y => ⟨L, q1, fun v => ?_⟩⟩
  · rcases q4 with ⟨v, -⟩ | ⟨b, a2, -, v, -⟩
    · exact v
    · rw [y] at v; cases v
  · rcases q4 with ⟨-, v2⟩ | ⟨b, a2, v2, -⟩
    · exact y v2
    · rw [v.2] at v2; cases v2
theorem s_n8_of {n : Int32} (h : ¬ (n < 1 ∨ 8 < n)) : ∃ k, (1 ≤ k ∧ k ≤ 8) ∧ n = nI k := s_n_of h
theorem co_axis (hV : sOK A.1) (hI : cINV g x0 P hp σ A M) (hz9 : g.2.2.2.2 999 + 257 ≤ nx) (hd : 50 ≤ d) (hmc : 247 ≤ mc) (hms : 1482 ≤ ms) {x w s st n : Int32} {K : Int32 → zHp → Nat → Prop} (hK : ∀ σ' hp' nx', cINV g x0 P hp' σ' (o_axis A x w s st n).2 M → hLe hp hp' → nx ≤ nx' → K (o_axis A x w s st n).1 (cput g x0 P σ' hp') nx') : zMt l g yX0_axis cX0_axis 8 (some .int) d mc ms [.ref x0, .int x, .int w, .int s, .int st, .int n] (cput g x0 P σ hp) nx (zQi g K) := by
  obtain ⟨d, rfl⟩ := Nat.exists_eq_add_of_le' (show 1 ≤ d by omega)
  have hI' := hI
  obtain ⟨i1, i2, i3, i4, i5, i6, i7⟩ := hI
  have h0 := hK σ hp nx
  apply met_X0_axis
  unfold wp_X0_axis
  refine ⟨Nat.zero_le _, Nat.zero_le _, ?_⟩
  have m41 : ∀ h n' kc ks, (o_axis A x w s st n = (-2, A) ∧ h = cput g x0 P σ hp ∧ nx = n' ∧ kc = 0 ∧ ks = 0) → kc ≤ mc ∧ ks ≤ ms ∧ K (-2) h n' := by
    rintro h n' kc ks ⟨e, rfl, rfl, rfl, rfl⟩
    rw [e] at h0
    exact ⟨Nat.zero_le _, Nat.zero_le _, h0 hI' hLe.rf (Nat.le_refl _)⟩
  refine c_isTable (by omega) (fun e => ?_) (fun t ht ex e => ?_)
  · exact ⟨fun h n' kc ks => o_axis A x w s st n = (-2, A) ∧ h = cput g x0 P σ hp ∧ nx = n' ∧ kc = 0 ∧ ks = 0, m41, fun _ => ⟨by unfold o_axis; rw [e], rfl, rfl, rfl, rfl⟩, fun z => absurd rfl z⟩
  refine ⟨fun h n' kc ks => o_axis A x w s st n = (-2, A) ∧ h = cput g x0 P σ hp ∧ nx = n' ∧ kc = 0 ∧ ks = 0, m41, fun z => absurd z (by decide), fun _ => ⟨Nat.zero_le _, Nat.zero_le _, ?_⟩⟩
  have no : ((w < 0 ∨ 1 < w) ∨ (s < -80000 ∨ 80000 < s) ∨ (st < -8000 ∨ 8000 < st) ∨ (n < 1 ∨ 8 < n)) → (o_axis A x w s st n = (-2, A) ∧ cput g x0 P σ hp = cput g x0 P σ hp ∧ nx = nx ∧ 0 = 0 ∧ 0 = 0) := fun h => ⟨by unfold o_axis; rw [e]; simp only [if_pos h], rfl, rfl, rfl, rfl⟩
  refine c_inn (a := 0) (b := 1) (by decide) (by decide) (by omega) (fun z => ⟨fun _ => no (Or.inl z), fun y => absurd rfl y⟩) (fun h1 => ⟨fun y => absurd y (by decide), fun _ => ⟨Nat.zero_le _, Nat.zero_le _, ?_⟩⟩)
  refine c_inn (a := -80000) (b := 80000) (by decide) (by decide) (by omega) (fun z => ⟨fun _ => no (Or.inr (Or.inl z)), fun y => absurd rfl y⟩) (fun h2 => ⟨fun y => absurd y (by decide), fun _ => ⟨Nat.zero_le _, Nat.zero_le _, ?_⟩⟩)
  refine c_inn (a := -8000) (b := 8000) (by decide) (by decide) (by omega) (fun z => ⟨fun _ => no (Or.inr (Or.inr (Or.inl z))), fun y => absurd rfl y⟩) (fun h3 => ⟨fun y => absurd y (by decide), fun _ => ⟨Nat.zero_le _, Nat.zero_le _, ?_⟩⟩)
  refine c_inn (a := 1) (b := 8) (by decide) (by decide) (by omega) (fun z => ⟨fun _ => no (Or.inr (Or.inr (Or.inr z))), fun y => absurd rfl y⟩) (fun h4 => ⟨fun y => absurd y (by decide), fun _ => ⟨Nat.zero_le _, Nat.zero_le _, ?_⟩⟩)
  clear no m41
  obtain ⟨nn, hnn, rfl⟩ := s_n_of h4
  obtain ⟨ww, hww, rfl⟩ : ∃ k, k < 2 ∧ w = nI k := by
    rcases s_x_of (x := w) (M := 1) (n := 1) (by decide) with q | q
    · exact absurd q h1
    · exact q
  subst ex
  have eo : o_axis A (nI t) (nI ww) s st (nI nn) = (match A.1.2.1 t with
    | none => (-3, A)
    | some L => if nI ww = 1 ∧ L.2.2.1 = none then (-3, A) else o_lay A t (s_ax L ww ((List.range nn).map fun k => o_8 (s + nI k * st)))) := by
    unfold o_axis
    rw [e]
    simp only [if_neg (fun q : (nI ww < 0 ∨ 1 < nI ww) ∨ (s < -80000 ∨ 80000 < s) ∨ (st < -8000 ∨ 8000 < st) ∨ (nI nn < 1 ∨ 8 < nI nn) => q.elim h1 fun q => q.elim h2 fun q => q.elim h3 h4), nI_clamp (show ww < 2 ^ 31 by omega), nI_clamp (show nn < 2 ^ 31 by omega)]
    cases A.1.2.1 t <;> rfl
  have ew1 : nI ww = 1 ↔ ww = 1 := by
    rw [show (1 : Int32) = nI 1 from rfl]
    exact nI_eq (by omega) (by omega)
  rw [cz_o]
  refine c_isFixed (w := ww) i1 i6.1 ht hww (by omega) (fun q => ⟨fun y => absurd y (by decide), fun _ => ⟨Nat.zero_le _, Nat.zero_le _, ?_⟩⟩) (fun L hL q => ⟨fun _ => ?_, fun y => absurd rfl y⟩)
  · have : o_axis A (nI t) (nI ww) s st (nI nn) = (-3, A) := by
      rw [eo]
      rcases q with q | ⟨L, q1, q2, q3⟩
      · simp only [q]
      · simp only [q1]
        rw [if_pos ⟨ew1.mpr q2, q3⟩]
    rw [this] at h0
    exact h0 hI' hLe.rf (Nat.le_refl _)
  clear h0
  simp only [hL] at eo
  rw [if_neg (fun y => q ⟨ew1.mp y.1, y.2⟩)] at eo
  rw [eo] at hK
  obtain ⟨ns, ens⟩ : ∃ ns, ns = (List.range nn).map fun k => o_8 (s + nI k * st) := ⟨_, rfl⟩
  rw [← ens] at hK
  have hln : ns.length = nn := by rw [ens, List.length_map, List.length_range]
  have hns : ∀ j, j < nn → ns.getD j 0 = o_8 (s + nI j * st) := fun j hj => by
    rw [ens, List.getD_eq_getElem?_getD, List.getElem?_map, List.getElem?_range hj]; rfl
  refine c_nar (n := nn) i1 (by omega) (by omega) (by omega) (fun u1 u2 u3 u4 => ?_)
  rintro _ _ _ rfl rfl rfl
  rw [nI_clamp (show nn < 2 ^ 31 by omega)]
  refine ⟨fun m r k h n' kc ks => ∃ j f, m = nn - j ∧ j ≤ nn ∧ r = some nx ∧ k = nI j ∧ h = cput g x0 P σ (va_up hp nx (some (.inl (g.2.1 1, nn, .inr (.inr (.inr (.inl f))))))) ∧ n' = nx + 1 ∧ kc = 1 ∧ ks = nn ∧ ∀ i, i < j → f i = o_8 (s + nI i * st), ⟨nn, 0, fun _ => 0, rfl, Nat.zero_le _, rfl, rfl, rfl, rfl, by omega, by omega, fun i hi => absurd hi (Nat.not_lt_zero _)⟩, ?_⟩
  rintro m r k h n' kc ks ⟨j, f, rfl, hj, rfl, rfl, rfl, rfl, rfl, rfl, hf⟩
  have hle : hLe hp (va_up hp nx (some (.inl (g.2.1 1, ks, .inr (.inr (.inr (.inl f))))))) := hLe.up u2
  have hW1 : cW g x0 P (va_up hp nx (some (.inl (g.2.1 1, ks, .inr (.inr (.inr (.inl f))))))) := cW_hq u1 i1
  refine ⟨fun z => ?_, fun z => ?_⟩
  · have hjk : j = ks := by
      have := (nI_leI (by omega) (by omega)).mp z
      omega
    subst hjk
    refine ⟨246, 1474, by omega, by omega, ?_⟩
    rw [cz_o]
    refine c_varies (L := L) (w := ww) (ns := ns) (f := f) hV (hI'.mo hle hW1) ht hL hww (fun y y2 => q ⟨y, y2⟩) (by rw [va_s, hln]) (fun i hi => by rw [hf i (by omega), hns i (by omega)]) (Or.inr (by omega)) (by omega) (by omega) (by omega) (by omega) (fun σ' hp' nx' z1 z2 z3 => ⟨by omega, by omega, hK σ' hp' nx' z1 (hle.tr z2) (by omega)⟩)
  · have hjk : j < ks := by
      rcases Nat.lt_or_ge j ks with y | y
      · exact y
      · exact absurd ((nI_leI (by omega) (by omega)).mpr y) z
    have h8 : s_B (o_8 (s + nI j * st)) := fb_8
    refine ⟨fb_nn h8, ?_⟩
    have ha : va_up hp nx (some (.inl (g.2.1 1, ks, .inr (.inr (.inr (.inl f)))))) nx = some (.inl (g.2.1 1, ks, .inr (.inr (.inr (.inl f))))) := va_s
    rw [c_aD (cput_h hW1 ha)]
    refine ⟨vp_in_nI hjk (by omega), u3, ?_⟩
    rintro _ rfl
    rintro _ rfl
    refine ⟨ks - (j + 1), by omega, j + 1, va_up f j (o_8 (s + nI j * st)), rfl, by omega, rfl, nI_1 j, ?_, rfl, rfl, rfl, fun i hi => ?_⟩
    · rw [nI_clamp (show j < 2 ^ 31 by omega), cput_hq u1, cva_uu]
      rfl
    · by_cases y : i = j
      · subst y; rw [va_s]
      · rw [va_o y]; exact hf i (by omega)
end AX
