set_option maxRecDepth 100000
/-! put, row -/
section PU
variable {l : Launch} {g : zG} {d x0 : Nat} {P : cP} {σ σ' : cS} {hp hp' : zHp} {nx M M' : Nat} {A : sV} {S : sSt} {mc ms kc ks : Nat}
/-- a row's array holds other items -/
theorem cr_u (hW : cW g x0 P hp) {r a t n : Nat} (hr : r < 4) (e : P.2.2 r = some (a, t, n)) (x : cAr) : va_up (cput g x0 P σ hp) a (some (.inl (g.2.1 t, n, x))) = cput g x0 P (cuC σ (va_up σ.2.2.2.2.2.2.2.2.2.2.2 r x)) hp := by
  funext y
  by_cases q : y = a
  · subst q
    rw [va_s, cput_r hW hr e]
    show _ = (some (.inl (g.2.1 t, n, va_up σ.2.2.2.2.2.2.2.2.2.2.2 r x r)) : Option va_E)
    rw [va_s]
  rw [va_o q]
  by_cases hi : cIn x0 y
  · unfold cput
    rw [s_if_p hi, s_if_p hi]
    rfl
  by_cases hc : ∃ c, c < 24 ∧ P.1 c = y
  · obtain ⟨c, hc, rfl⟩ := hc
    rw [cput_c hW hc, cput_c hW hc]
    rfl
  by_cases hx : ∃ r' t n, r' < 4 ∧ P.2.2 r' = some (y, t, n)
  · obtain ⟨r', t', n', hr', e'⟩ := hx
    rw [cput_r hW hr' e', cput_r hW hr' e']
    have hne : r' ≠ r := fun z => by
      subst z
      rw [e] at e'
      cases e'
      exact q rfl
    show _ = (some (.inl (g.2.1 t', n', va_up σ.2.2.2.2.2.2.2.2.2.2.2 r x r')) : Option va_E)
    rw [va_o hne]
  · unfold cput cRoH cPlH
    rw [s_if_n hi, s_if_n hi, s_if_n hx, s_if_n hx, s_if_n hc, s_if_n hc]
theorem x_set {s k : Nat} {x x' : cAr} {q : List (Option UInt64)} {v0 : UInt64} (hk : k < q.length) (h1 : cIt1 s x' k (some v0)) (h2 : ∀ j o, j ≠ k → cIt1 s x j o → cIt1 s x' j o) (hit : ∀ i o, q[i]? = some o → cIt1 s x i o) : ∀ j o, (q.set k (some v0))[j]? = some o → cIt1 s x' j o := by
  intro j o h
  rw [List.getElem?_set] at h
  by_cases e : k = j
  · subst e
    rw [if_pos rfl, if_pos hk] at h
    cases h
    exact h1
  · rw [if_neg e] at h
    exact h2 j o (fun z => e z.symm) (hit j o h)
theorem x_nb {v : Int32} : vp_nar .byte v.toInt8.toInt32 = v.toInt8.toInt32 ∧ (v.toInt8.toInt32).toInt8.toInt32 = v.toInt8.toInt32 := by
  have h : (v.toInt8.toInt32).toInt8 = v.toInt8 := by simp
  refine ⟨?_, by rw [h]⟩
  show (v.toInt8.toInt32).toInt8.toInt32 = _
  rw [h]
/-- an item is put, or out of bounds -/
theorem x_puts {H : zHp} {a b s n : Nat} {x : cAr} {q : List (Option UInt64)} {i v : Int32} (hb : H b = some (.inr (3, [va_rf (some a)]))) (ha : H a = some (.inl (g.2.1 (cSo s), n, x))) (hz : zB g ≤ a) (hsx : cSx s x) (hn : n = q.length) (h64 : n ≤ 64) (hs : s ≤ 3) (hit : ∀ i o, q[i]? = some o → cIt1 s x i o) (hT : l.stackTraces = false) (hd : 170 ≤ d) (hmc : 3 ≤ mc) (hms : 222 ≤ ms) {K : zHp → Nat → Prop} {KX : Nat → zHp → Nat → Prop} (hK : vp_in i n → ∀ x', cSx s x' → (∀ j o, (q.set i.toNatClampNeg (some (s_pv s v)))[j]? = some o → cIt1 s x' j o) → K (va_up H a (some (.inl (g.2.1 (cSo s), n, x')))) nx) (hX : ¬ vp_in i n → ∀ u nx', nx ≤ nx' → KX u H nx') : zMx l g yX3_puts cX3_puts 3 none d mc ms [.ref b, .int i, .int v] H nx (zQv g K) "java/lang/ArrayIndexOutOfBoundsException" KX := by
  obtain ⟨d, rfl⟩ := Nat.exists_eq_add_of_le' (show 1 ≤ d by omega)
  have hR : ∀ {Q : Option Nat → Prop}, zgR H (some b) [3] 0 Q = Q (some a) := fun {Q} => hz_R hb (r := some a) rfl (by decide)
  have out : ¬ vp_in i n → n < 2147483648 ∧ (l.stackTraces = false ∧ 160 ≤ d ∧ (0 + 3) ≤ mc ∧ (0 + 222) ≤ ms ∧ ∀ u nx' : Nat, nx ≤ nx' → KX u H nx') := fun hi => ⟨by omega, hT, by omega, by omega, by omega, fun u nx' h => hX hi u nx' h⟩
  have h8 : s_B (o_8 v) := fb_8
  apply mv_X3_puts
  unfold wv_X3_puts
  rw [hR]
  refine x_ia (t := 0) ha hs (by decide) (fun y hy => ?_)
  refine ⟨fun h n' kc ks => (vp_in i n ∧ ∃ x', cSx s x' ∧ (∀ j o, (q.set i.toNatClampNeg (some (s_pv s v)))[j]? = some o → cIt1 s x' j o) ∧ h = va_up H a (some (.inl (g.2.1 (cSo s), n, x')))) ∧ nx = n' ∧ kc = 0 ∧ ks = 0, ?_, fun z => ?_, fun z => ?_⟩
  · rintro h n' kc ks ⟨⟨hi, x', y1, y2, rfl⟩, rfl, rfl, rfl⟩
    exact ⟨Nat.zero_le _, Nat.zero_le _, hK hi x' y1 y2⟩
  · have s0 : s ≠ 0 := by
      rcases hy with ⟨e, -⟩ | ⟨-, e⟩
      · rw [e] at z; exact absurd z (by decide)
      · exact e
    rw [hR]
    refine x_ia (t := 1) ha hs (by decide) (fun y1 hy1 => ⟨fun z1 => ?_, fun z1 => ?_⟩)
    · have s1 : s ≠ 1 := by
        rcases hy1 with ⟨e, -⟩ | ⟨-, e⟩
        · rw [e] at z1; exact absurd z1 (by decide)
        · exact e
      rw [hR]
      refine x_ia (t := 2) ha hs (by decide) (fun y2 hy2 => ⟨fun z2 => ?_, fun z2 => ?_⟩)
      · have s2 : s ≠ 2 := by
          rcases hy2 with ⟨e, -⟩ | ⟨-, e⟩
          · rw [e] at z2; exact absurd z2 (by decide)
          · exact e
        have s3 : s = 3 := by omega
        subst s3
        rw [hR]
        refine ⟨fun a' e => by cases e; exact ⟨_, ha⟩, fb_nn h8, ?_⟩
        rcases x with f | f | f | f | f
        · exact absurd hsx (by rintro (e | e) <;> omega)
        · exact hsx.elim
        · exact absurd hsx (by intro e; cases e)
        · have ha' : H a = some (.inl (g.2.1 1, n, .inr (.inr (.inr (.inl f))))) := ha
          rw [hz_aD ha']
          refine ⟨fun hi => ⟨hz, ?_⟩, out⟩
          rintro _ rfl
          refine ⟨⟨hi, .inr (.inr (.inr (.inl (va_up f i.toNatClampNeg (o_8 v))))), rfl, x_set (by rw [← hn]; exact x_in0 hi) ⟨rfl, Or.inr ⟨?_, ?_⟩⟩ (fun j o hj h => ?_) hit, rfl⟩, rfl, rfl, rfl⟩
          · rw [va_s]; rfl
          · rw [va_s]; exact h8
          · obtain ⟨h3, h4⟩ := h
            refine ⟨h3, ?_⟩
            rw [va_o hj]; exact h4
        · exact hsx.elim
      · have s2 : s = 2 := by
          rcases hy2 with ⟨-, e⟩ | ⟨e, -⟩
          · exact e
          · exact absurd e z2
        subst s2
        rw [hR]
        refine ⟨fun a' e => by cases e; exact ⟨_, ha⟩, fb_nn h8, fb_nn32 (fb_d2f h8), ?_⟩
        rcases x with f | f | f | f | f
        · exact absurd hsx (by rintro (e | e) <;> cases e)
        · exact hsx.elim
        · have ha' : H a = some (.inl (g.2.1 5, n, .inr (.inr (.inl f)))) := ha
          rw [hz_aF ha']
          refine ⟨fun hi => ⟨hz, ?_⟩, out⟩
          rintro _ rfl
          refine ⟨⟨hi, .inr (.inr (.inl (va_up f i.toNatClampNeg (FP.d2f (o_8 v))))), rfl, x_set (by rw [← hn]; exact x_in0 hi) ⟨rfl, ?_, ?_⟩ (fun j o hj h => ?_) hit, rfl⟩, rfl, rfl, rfl⟩
          · rw [va_s]; rfl
          · rw [va_s]; exact fb_d2f h8
          · obtain ⟨h3, h4, h5⟩ := h
            refine ⟨h3, ?_, ?_⟩
            · rw [va_o hj]; exact h4
            · rw [va_o hj]; exact h5
        · exact absurd hsx (by intro e; cases e)
        · exact hsx.elim
    · have s1 : s = 1 := by
        rcases hy1 with ⟨-, e⟩ | ⟨e, -⟩
        · exact e
        · exact absurd e z1
      subst s1
      rw [hR]
      refine ⟨fun a' e => by cases e; exact ⟨_, ha⟩, ?_⟩
      rcases x with f | f | f | f | f
      · have ha' : H a = some (.inl (g.2.1 0, n, .inl f)) := ha
        rw [hz_aI ha']
        refine ⟨fun hi => ⟨hz, ?_⟩, out⟩
        rintro _ rfl
        refine ⟨⟨hi, .inl (va_up f i.toNatClampNeg v), Or.inr rfl, x_set (by rw [← hn]; exact x_in0 hi) ⟨Or.inr rfl, ?_, fun e => by cases e⟩ (fun j o hj h => ?_) hit, rfl⟩, rfl, rfl, rfl⟩
        · rw [va_s]; rfl
        · obtain ⟨h3, h4, h5⟩ := h
          refine ⟨h3, ?_, fun e => by cases e⟩
          rw [va_o hj]; exact h4
      · exact hsx.elim
      · exact absurd hsx (by intro e; cases e)
      · exact absurd hsx (by intro e; cases e)
      · exact hsx.elim
  · have s0 : s = 0 := by
      rcases hy with ⟨-, e⟩ | ⟨e, -⟩
      · exact e
      · exact absurd e z
    subst s0
    rw [hR]
    refine ⟨fun a' e => by cases e; exact ⟨_, ha⟩, ?_⟩
    rcases x with f | f | f | f | f
    · have ha' : H a = some (.inl (g.2.1 2, n, .inl f)) := ha
      rw [hz_aI ha']
      refine ⟨fun hi => ⟨hz, ?_⟩, out⟩
      rintro _ rfl
      rw [x_nb.1]
      refine ⟨⟨hi, .inl (va_up f i.toNatClampNeg v.toInt8.toInt32), Or.inl rfl, x_set (by rw [← hn]; exact x_in0 hi) ⟨Or.inl rfl, ?_, fun _ => ?_⟩ (fun j o hj h => ?_) hit, rfl⟩, rfl, rfl, rfl⟩
      · rw [va_s]; rfl
      · rw [va_s]; exact x_nb.2
      · obtain ⟨h3, h4, h5⟩ := h
        refine ⟨h3, ?_, fun e => ?_⟩
        · rw [va_o hj]; exact h4
        · rw [va_o hj]; exact h5 e
    · exact hsx.elim
    · exact absurd hsx (by intro e; cases e)
    · exact absurd hsx (by intro e; cases e)
    · exact hsx.elim
theorem cRw.st {rw' : Nat → Option sRw} (h : cRw P σ rw') {r s : Nat} {q q' : List (Option UInt64)} {x' : cAr} (hq : rw' r = some (s, q)) (hl : q'.length = q.length) (hsx : cSx s x') (hit : ∀ i o, q'[i]? = some o → cIt1 s x' i o) : cRw P (cuC σ (va_up σ.2.2.2.2.2.2.2.2.2.2.2 r x')) (s_up rw' r (some (s, q'))) := by
  intro r' hr'
  show (_ ∧ σ.2.2.2.2.2.2.2.2.2.1 r' = none ∧ P.2.2 r' = none) ∨ ∃ a' q', _ ∧ σ.2.2.2.2.2.2.2.2.2.1 r' = _ ∧ P.2.2 r' = _ ∧ _ ∧ _ ∧ cSx _ (va_up σ.2.2.2.2.2.2.2.2.2.2.2 r x' r') ∧ ∀ i o, _ → cIt1 _ (va_up σ.2.2.2.2.2.2.2.2.2.2.2 r x' r') i o
  by_cases e : r' = r
  · subst e
    rw [va_s, s_up_s]
    rcases h r' hr' with ⟨w1, -, -⟩ | ⟨a, q2, w1, w2, w3, w4, w5, w6, w7⟩
    · rw [hq] at w1; cases w1
    · rw [hq] at w1; cases w1
      exact Or.inr ⟨a, (s, q'), rfl, w2, by rw [w3, hl], w4, by rw [hl]; exact w5, hsx, hit⟩
  · rw [va_o e, s_up_o e]
    exact h r' hr'
/-- put -/
theorem co_put (hI : cINV g x0 P hp σ A M) (hT : l.stackTraces = false) (hd : 200 ≤ d) (hmc : 3 ≤ mc) (hms : 222 ≤ ms) {x i v : Int32} {K : Int32 → zHp → Nat → Prop} (hK : ∀ σ' nx', cINV g x0 P hp σ' (o_put A x i v).2 M → nx ≤ nx' → K (o_put A x i v).1 (cput g x0 P σ' hp) nx') : zMtW l g yX0_put cX0_put 5 (some .int) [(25, 37, 38, 484)] d mc ms [.ref x0, .int x, .int i, .int v] (cput g x0 P σ hp) nx (zQi g K) := by
  obtain ⟨d, rfl⟩ := Nat.exists_eq_add_of_le' (show 1 ≤ d by omega)
  have hI' := hI
  obtain ⟨i1, i2, i3, i4, i5, i6, i7, i8, i9, i10⟩ := hI
  have h0 := hK σ
  apply mv_X0_put
  unfold wv_X0_put
  refine ⟨Nat.zero_le _, Nat.zero_le _, c_isRow (by omega) (fun e => ⟨fun _ => ⟨Nat.zero_le _, Nat.zero_le _, ?_⟩, fun z => absurd rfl z⟩) (fun r hr ex e => ⟨fun z => absurd z (by decide), fun _ => ?_⟩)⟩
  · have eo : o_put A x i v = (-2, A) := by
      have : o_ino A x i = -2 := by unfold o_ino; rw [e]
      unfold o_put; rw [this]; rfl
    rw [eo] at h0; exact h0 nx hI' (Nat.le_refl _)
  subst ex
  have cr : (nI r).toNatClampNeg = r := nI_clamp (by omega)
  refine cRR hr ?_
  rw [cr_g hr]
  rcases i9 r hr with ⟨w1, w2, w3⟩ | ⟨a, q, w1, w2, w3, w4, w5, w6, w7⟩
  · rw [w2]
    refine ⟨fun _ => ⟨Nat.zero_le _, Nat.zero_le _, ?_⟩, fun z => absurd rfl z⟩
    have eo : o_put A (nI r) i v = (-11, A) := by
      have : o_ino A (nI r) i = -11 := by unfold o_ino; rw [e]; simp only [w1]
      unfold o_put; rw [this]; rfl
    rw [eo] at h0; exact h0 nx hI' (Nat.le_refl _)
  · rw [w2]
    refine ⟨fun z => absurd z (by simp), fun _ => ?_⟩
    refine cRR hr ?_
    refine ⟨3, 222, by omega, by omega, ?_⟩
    have hb := cput_t (g := g) (x0 := x0) (P := P) (σ := σ) (hp := hp) hr
    rw [w2] at hb
    rw [hz_o hb (by decide)]
    refine x_puts hb (cput_r i1 hr w3) (i1.2.2.2.2.1 r _ _ _ hr w3).2.2.1 w6 rfl w5 w4 w7 hT (by omega) (by omega) (by omega) (fun hi x' y1 y2 => ⟨by omega, by omega, ?_⟩) (fun hi u nx' hle => ⟨by omega, by omega, ?_⟩)
    · have hv := (x_rng w5).mp hi
      have eo : o_put A (nI r) i v = (1, v_rw A (s_up A.2.2.2 r (some (q.1, q.2.set i.toNatClampNeg (some (s_pv q.1 v)))))) := by
        have : o_ino A (nI r) i = 0 := by unfold o_ino; rw [e]; simp only [w1]; rw [if_neg hv]
        unfold o_put
        rw [this, cr, w1]
        rfl
      rw [cr_u i1 hr w3 x']
      rw [eo] at hK
      refine hK _ nx ?_ (Nat.le_refl _)
      exact cINV.rw (σ' := cuC σ (va_up σ.2.2.2.2.2.2.2.2.2.2.2 r x')) hI' hLe.rf i1 rfl rfl rfl rfl rfl rfl rfl rfl rfl rfl rfl rfl (i9.st (q := q.2) w1 (List.length_set ..) y1 y2)
    · have hv : i < 0 ∨ nI q.2.length - 1 < i := Classical.byContradiction fun y => hi ((x_rng w5).mpr y)
      have eo : o_put A (nI r) i v = (-12, A) := by
        have : o_ino A (nI r) i = -12 := by unfold o_ino; rw [e]; simp only [w1]; rw [if_pos hv]
        unfold o_put; rw [this]; rfl
      rw [eo] at h0; exact h0 nx' hI' hle
end PU
