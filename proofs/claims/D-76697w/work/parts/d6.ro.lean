set_option maxRecDepth 100000
/-! what the machine refuses: item, row, put, taken -/
section RI
variable {l : Launch} {g : zG} {d x0 : Nat} {P : cP} {σ σ' : cS} {hp hp' : zHp} {nx M M' : Nat} {A : sV} {S : sSt} {mc ms kc ks : Nat}
/-- a row's object -/
theorem cRR {r : Nat} (hr : r < 4) {K : Option Nat → Prop} (hK : K (some (x0 + (227 + r)))) : zgR (cput g x0 P σ hp) (some x0) [0] 29 fun q => zaR (g.2.1 12) (cput g x0 P σ hp) q fun a n f => vp_in (nI r) n ∧ ∀ u : Option Nat, u = f (nI r).toNatClampNeg → K u := by
  rw [cg_rows, ca_rows]
  refine ⟨vp_in_nI hr (by decide), ?_⟩
  intro u e
  rw [nI_clamp (by omega)] at e
  rw [e]
  exact hK
theorem hz_aF {K : Nat → Nat → (Nat → UInt32) → Prop} {n t : Nat} {f : Nat → UInt32} {a : Nat} (h : hp a = some (.inl (g.2.1 t, n, .inr (.inr (.inl f))))) : zaF (g.2.1 t) hp (some a) K = K a n f := by
  unfold zaF; simp only [h, true_and]
theorem cSo_m {s : Nat} (h : s ≤ 3) : cSo s = 0 ∨ cSo s = 1 ∨ cSo s = 2 ∨ cSo s = 5 := by
  have : ∀ s, s < 4 → (cSo s = 0 ∨ cSo s = 1 ∨ cSo s = 2 ∨ cSo s = 5) := by decide
  exact this s (by omega)
theorem cSo_j {s t : Nat} (h : s ≤ 3) (ht : t ≤ 3) (e : s ≠ t) : cSo s ≠ cSo t := by
  have : ∀ s, s < 4 → ∀ t, t < 4 → s ≠ t → cSo s ≠ cSo t := by decide
  exact this s (by omega) t (by omega) e
/-- of what sort an array is -/
theorem x_ia {H : zHp} {a s n : Nat} {x : cAr} (ha : H a = some (.inl (g.2.1 (cSo s), n, x))) (hs : s ≤ 3) {t : Nat} (ht : t ≤ 3) {K : Int32 → Prop} (h : ∀ y : Int32, ((y = 1 ∧ s = t) ∨ (y = 0 ∧ s ≠ t)) → K y) : zIA g H (some a) (cSo t) K := by
  by_cases e : s = t
  · subst e; exact ⟨a, (n, x), rfl, Or.inl ⟨ha, h 1 (Or.inl ⟨rfl, rfl⟩)⟩⟩
  · exact ⟨a, (n, x), rfl, Or.inr ⟨cSo s, cSo_m hs, cSo_j hs ht e, ha, h 0 (Or.inr ⟨rfl, e⟩)⟩⟩
theorem x_gd {q : List (Option UInt64)} {k : Nat} (h : k < q.length) : ∃ o, q[k]? = some o ∧ q.getD k none = o :=
  ⟨q[k], List.getElem?_eq_getElem h, by rw [List.getD_eq_getElem?_getD, List.getElem?_eq_getElem h]; rfl⟩
/-- what an item is, as its bits -/
def s_iv (q : List (Option UInt64)) (i : Int32) : Int64 := match q.getD i.toNatClampNeg none with
  | none => -1
  | some v => v.toInt64
theorem x_in0 {i : Int32} {n : Nat} (h : vp_in i n) : i.toNatClampNeg < n := by
  rcases Nat.lt_or_ge i.toNatClampNeg n with q | q
  · exact q
  · exact absurd (Or.inr q) h
/-- an item's bits, or out of bounds -/
theorem x_bits {H : zHp} {a b s n : Nat} {x : cAr} {q : List (Option UInt64)} {i : Int32} (hb : H b = some (.inr (3, [va_rf (some a)]))) (ha : H a = some (.inl (g.2.1 (cSo s), n, x))) (hsx : cSx s x) (hn : n = q.length) (h64 : n ≤ 64) (hs : s ≤ 3) (hit : ∀ i o, q[i]? = some o → cIt1 s x i o) (hT : l.stackTraces = false) (hd : 170 ≤ d) (hmc : 3 ≤ mc) (hms : 222 ≤ ms) {K : Int64 → zHp → Nat → Prop} {KX : Nat → zHp → Nat → Prop} (hK : vp_in i n → K (s_iv q i) H nx) (hX : ¬ vp_in i n → ∀ u nx', nx ≤ nx' → KX u H nx') : zMx l g yX3_bits cX3_bits 4 (some .long) d mc ms [.ref b, .int i] H nx (zQl g K) "java/lang/ArrayIndexOutOfBoundsException" KX := by
  obtain ⟨d, rfl⟩ := Nat.exists_eq_add_of_le' (show 1 ≤ d by omega)
  have hR : ∀ {Q : Option Nat → Prop}, zgR H (some b) [3] 0 Q = Q (some a) := fun {Q} => hz_R hb (r := some a) rfl (by decide)
  have out : ¬ vp_in i n → n < 2147483648 ∧ (l.stackTraces = false ∧ 160 ≤ d ∧ (0 + 3) ≤ mc ∧ (0 + 222) ≤ ms ∧ ∀ u nx' : Nat, nx ≤ nx' → KX u H nx') := fun hi => ⟨by omega, hT, by omega, by omega, by omega, fun u nx' h => hX hi u nx' h⟩
  apply mv_X3_bits
  unfold wv_X3_bits
  rw [hR]
  refine x_ia (t := 0) ha hs (by decide) (fun y hy => ?_)
  refine ⟨fun v h n' kc ks => (vp_in i n ∧ ((q.getD i.toNatClampNeg none = none ∧ v = cNaN) ∨ (q.getD i.toNatClampNeg none = some v ∧ s_B v))) ∧ h = H ∧ nx = n' ∧ kc = 0 ∧ ks = 0, ?_, fun z => ?_, fun z => ?_⟩
  · rintro v h n' kc ks ⟨⟨hi, hv⟩, rfl, rfl, rfl, rfl⟩
    refine ⟨fun _ r h2 n2 kc2 ks2 => r = s_iv q i ∧ h2 = h ∧ nx = n2 ∧ kc2 = 0 ∧ ks2 = 0, ?_, fun e => ?_, fun e => ?_⟩
    · rintro _ r h2 n2 kc2 ks2 ⟨rfl, rfl, rfl, rfl, rfl⟩
      exact ⟨Nat.zero_le _, Nat.zero_le _, hK hi⟩
    · rcases hv with ⟨-, rfl⟩ | ⟨w, hB⟩
      · exact absurd (fc_l0.mp e) cNaN_ne
      · refine ⟨Nat.zero_le _, Nat.zero_le _, t_dlb (by omega) hB.f ⟨?_, rfl, rfl, rfl, rfl⟩⟩
        unfold s_iv; rw [w]
    · rcases hv with ⟨w, rfl⟩ | ⟨-, hB⟩
      · refine ⟨?_, rfl, rfl, rfl, rfl⟩
        unfold s_iv; rw [w]
      · exact absurd (fc_l0.mpr (s_eq_B hB)) e
  · have s0 : s ≠ 0 := by
      rcases hy with ⟨e, -⟩ | ⟨-, e⟩
      · rw [e] at z; exact absurd z (by decide)
      · exact e
    rw [hR]
    refine x_ia (t := 1) ha hs (by decide) (fun y1 hy1 => ⟨fun z1 => ?_, fun z1 => ?_⟩)
    · have s1 : s ≠ 1 := by
        rcases hy1 with ⟨e, -⟩ | ⟨-, e⟩
        · rw [e] at z1; exact absurd z1 (by decide)
        · exact e
      rw [hR]
      refine x_ia (t := 2) ha hs (by decide) (fun y2 hy2 => ⟨fun z2 => ?_, fun z2 => ?_⟩)
      · have s2 : s ≠ 2 := by
          rcases hy2 with ⟨e, -⟩ | ⟨-, e⟩
          · rw [e] at z2; exact absurd z2 (by decide)
          · exact e
        have s3 : s = 3 := by omega
        subst s3
        rw [hR]
        refine ⟨fun a' e => by cases e; exact ⟨_, ha⟩, ?_⟩
        rcases x with f | f | f | f | f
        · exact absurd hsx (by rintro (e | e) <;> omega)
        · exact hsx.elim
        · exact absurd hsx (by intro e; cases e)
        · have ha' : H a = some (.inl (g.2.1 1, n, .inr (.inr (.inr (.inl f))))) := ha
          rw [hz_aD ha']
          refine ⟨fun hi => ?_, out⟩
          rintro _ rfl
          refine ⟨⟨hi, ?_⟩, rfl, rfl, rfl, rfl⟩
          obtain ⟨o, o1, o2⟩ := x_gd (q := q) (k := i.toNatClampNeg) (by rw [← hn]; exact x_in0 hi)
          obtain ⟨-, ho⟩ := hit _ _ o1
          rw [o2]
          exact ho
        · exact hsx.elim
      · have s2 : s = 2 := by
          rcases hy2 with ⟨-, e⟩ | ⟨e, -⟩
          · exact e
          · exact absurd e z2
        subst s2
        rw [hR]
        refine ⟨fun a' e => by cases e; exact ⟨_, ha⟩, ?_⟩
        rcases x with f | f | f | f | f
        · exact absurd hsx (by rintro (e | e) <;> cases e)
        · exact hsx.elim
        · have ha' : H a = some (.inl (g.2.1 5, n, .inr (.inr (.inl f)))) := ha
          rw [hz_aF ha']
          refine ⟨fun hi => ?_, out⟩
          rintro _ rfl
          obtain ⟨o, o1, o2⟩ := x_gd (q := q) (k := i.toNatClampNeg) (by rw [← hn]; exact x_in0 hi)
          obtain ⟨-, ho, hC⟩ := hit _ _ o1
          have hB : s_B (FP.f2d (f i.toNatClampNeg)) := fb_f2d hC
          refine ⟨fb_nn hB, ?_⟩
          rintro _ rfl
          exact ⟨⟨hi, Or.inr ⟨by rw [o2, ho], hB⟩⟩, rfl, rfl, rfl, rfl⟩
        · exact absurd hsx (by intro e; cases e)
        · exact hsx.elim
    · have s1 : s = 1 := by
        rcases hy1 with ⟨-, e⟩ | ⟨e, -⟩
        · exact e
        · exact absurd e z1
      subst s1
      rw [hR]
      refine ⟨fun a' e => by cases e; exact ⟨_, ha⟩, ?_⟩
      rcases x with f | f | f | f | f
      · have ha' : H a = some (.inl (g.2.1 0, n, .inl f)) := ha
        rw [hz_aI ha']
        refine ⟨fun hi => ?_, out⟩
        rintro _ rfl
        rintro _ rfl
        obtain ⟨o, o1, o2⟩ := x_gd (q := q) (k := i.toNatClampNeg) (by rw [← hn]; exact x_in0 hi)
        obtain ⟨-, ho, -⟩ := hit _ _ o1
        exact ⟨⟨hi, Or.inr ⟨by rw [o2, ho], fb_i2d⟩⟩, rfl, rfl, rfl, rfl⟩
      · exact hsx.elim
      · exact absurd hsx (by intro e; cases e)
      · exact absurd hsx (by intro e; cases e)
      · exact hsx.elim
  · have s0 : s = 0 := by
      rcases hy with ⟨-, e⟩ | ⟨e, -⟩
      · exact e
      · exact absurd e z
    subst s0
    rw [hR]
    refine ⟨fun a' e => by cases e; exact ⟨_, ha⟩, ?_⟩
    rcases x with f | f | f | f | f
    · have ha' : H a = some (.inl (g.2.1 2, n, .inl f)) := ha
      rw [hz_aI ha']
      refine ⟨fun hi => ?_, out⟩
      rintro _ rfl
      rintro _ rfl
      obtain ⟨o, o1, o2⟩ := x_gd (q := q) (k := i.toNatClampNeg) (by rw [← hn]; exact x_in0 hi)
      obtain ⟨-, ho, -⟩ := hit _ _ o1
      exact ⟨⟨hi, Or.inr ⟨by rw [o2, ho], fb_i2d⟩⟩, rfl, rfl, rfl, rfl⟩
    · exact hsx.elim
    · exact absurd hsx (by intro e; cases e)
    · exact absurd hsx (by intro e; cases e)
    · exact hsx.elim
/-- an index is in range -/
theorem x_rng {i : Int32} {n : Nat} (h : n ≤ 64) : vp_in i n ↔ ¬ (i < 0 ∨ nI n - 1 < i) := by
  have e0 : (nI n - 1 : Int32).toInt = (n : Int) - 1 := by
    rcases Nat.eq_zero_or_pos n with rfl | hp
    · decide
    · have : nI n - 1 = nI (n - 1) := by
        have : n = (n - 1) + 1 := by omega
        rw [this, ← nI_1]; simp
      rw [this, nI_toInt (by omega)]
      omega
  unfold vp_in
  have e2 : (nI n - 1 < i) ↔ (n : Int) - 1 < i.toInt := by rw [Int32.lt_iff_toInt_lt, e0]
  rw [e2]
  constructor
  · rintro h1 (z | z)
    · exact h1 (Or.inl z)
    · refine h1 (Or.inr ?_)
      have : i.toNatClampNeg = i.toInt.toNat := rfl
      omega
  · rintro h1 (z | z)
    · exact h1 (Or.inl z)
    · refine h1 ?_
      by_cases y : i < 0
      · exact Or.inl y
      · right
        rw [Int32.lt_iff_toInt_lt] at y
        have : i.toNatClampNeg = i.toInt.toNat := rfl
        have e1 : (0 : Int32).toInt = 0 := by decide
        omega
/-- item -/
theorem co_item (hI : cINV g x0 P hp σ A M) (hT : l.stackTraces = false) (hd : 200 ≤ d) (hmc : 3 ≤ mc) (hms : 222 ≤ ms) {x i : Int32} {K : Int64 → zHp → Nat → Prop} (hK : ∀ nx', nx ≤ nx' → K (o_item A x i) (cput g x0 P σ hp) nx') : zMtW l g yX0_item cX0_item 4 (some .long) [(27, 37, 38, 484)] d mc ms [.ref x0, .int x, .int i] (cput g x0 P σ hp) nx (zQl g K) := by
  obtain ⟨d, rfl⟩ := Nat.exists_eq_add_of_le' (show 1 ≤ d by omega)
  obtain ⟨i1, i2, i3, i4, i5, i6, i7, i8, i9, i10⟩ := hI
  have h0 := hK nx (Nat.le_refl _)
  apply mv_X0_item
  unfold wv_X0_item
  refine ⟨Nat.zero_le _, Nat.zero_le _, c_isRow (by omega) (fun e => ⟨fun _ => ⟨Nat.zero_le _, Nat.zero_le _, ?_⟩, fun z => absurd rfl z⟩) (fun r hr ex e => ⟨fun z => absurd z (by decide), fun _ => ?_⟩)⟩
  · have eo : o_item A x i = -2 := by
      have : o_ino A x i = -2 := by unfold o_ino; rw [e]
      unfold o_item; rw [this]; rfl
    rw [eo] at h0; exact h0
  subst ex
  have cr : (nI r).toNatClampNeg = r := nI_clamp (by omega)
  refine cRR hr ?_
  rw [cr_g hr]
  rcases i9 r hr with ⟨w1, w2, w3⟩ | ⟨a, q, w1, w2, w3, w4, w5, w6, w7⟩
  · rw [w2]
    refine ⟨fun _ => ⟨Nat.zero_le _, Nat.zero_le _, ?_⟩, fun z => absurd rfl z⟩
    have eo : o_item A (nI r) i = -11 := by
      have : o_ino A (nI r) i = -11 := by unfold o_ino; rw [e]; simp only [w1]
      unfold o_item; rw [this]; rfl
    rw [eo] at h0; exact h0
  · rw [w2]
    refine ⟨fun z => absurd z (by simp), fun _ => ?_⟩
    refine cRR hr ?_
    refine ⟨3, 222, by omega, by omega, ?_⟩
    have hb := cput_t (g := g) (x0 := x0) (P := P) (σ := σ) (hp := hp) hr
    rw [w2] at hb
    rw [hz_o hb (by decide)]
    refine x_bits hb (cput_r i1 hr w3) w6 rfl w5 w4 w7 hT (by omega) (by omega) (by omega) (fun hi => ⟨by omega, by omega, ?_⟩) (fun hi u nx' hle => ⟨by omega, by omega, ?_⟩)
    · have hv := (x_rng w5).mp hi
      have eo : o_item A (nI r) i = s_iv q.2 i := by
        have : o_ino A (nI r) i = 0 := by unfold o_ino; rw [e]; simp only [w1]; rw [if_neg hv]
        unfold o_item s_iv
        rw [this, cr, w1]
        rfl
      rw [eo] at h0; exact h0
    · have hv : i < 0 ∨ nI q.2.length - 1 < i := Classical.byContradiction fun y => hi ((x_rng w5).mpr y)
      have eo : o_item A (nI r) i = -12 := by
        have : o_ino A (nI r) i = -12 := by unfold o_ino; rw [e]; simp only [w1]; rw [if_pos hv]
        unfold o_item; rw [this]; rfl
      have := hK nx' hle
      rw [eo] at this; exact this
end RI
