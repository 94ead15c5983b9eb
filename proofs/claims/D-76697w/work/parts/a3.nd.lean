set_option maxRecDepth 100000
/-! the component's formulas: nodes that stand for rows of marks; what a node is worth -/
section ND
variable {l : Launch} {g : zG} {x0 : Nat} {P : cP} {σ σ' : cS} {hp : zHp} {nx : Nat}
/-- the sign of a link -/
def cOp (tm : Bool) (m : Nat) (sg : Int32) : Prop := if tm then (m = 203 ∧ sg = 42) ∨ (m = 204 ∧ sg = 47) ∨ (m = 205 ∧ sg = 37) else (m = 201 ∧ sg = 43) ∨ (m = 202 ∧ sg = 45)
def cLk (R : Nat → List sM → Prop) (hp : zHp) (tm : Bool) : Nat → Option Nat → List sM → Prop
  | 0, r, ms => r = none ∧ ms = []
  | k + 1, r, ms => (r = none ∧ ms = []) ∨ ∃ a sg b r2 m ps rest, r = some a ∧ hp a = some (.inr (28, [.int sg, .ref b, va_rf r2])) ∧ R b ps ∧ cOp tm m sg ∧ cLk R hp tm k r2 rest ∧ ms = ps ++ (m, 0) :: rest
def cAk (ci : Nat) (x0 t : Nat) : List Value := if ci = 18 then [.ref x0, .int (nI t), .ref x0] else if ci = 19 ∨ ci = 22 then [.ref x0, .int (nI t), .ref x0, .ref x0] else if ci = 20 then [.ref x0, .int (nI t), .ref x0, .ref x0, .ref x0] else [.ref x0, .int (nI t), .ref x0, .ref x0, .ref x0, .ref x0]
def cNd (hp : zHp) (x0 : Nat) : Nat → Nat → List sM → Prop
  | 0, _, _ => False
  | n + 1, a, ms => (∃ v m, hp a = some (.inr (24, [.ref x0, .double v, .ref x0])) ∧ 24 ≤ m ∧ m < 200 ∧ ms = [(m, v)]) ∨
    (∃ c, c < 24 ∧ hp a = some (.inr (23, [.ref x0, .int (nI c), .ref x0])) ∧ ms = [(c, 0)]) ∨
    (∃ b ps, hp a = some (.inr (25, [.ref x0, .ref b, .ref x0])) ∧ cNd hp x0 n b ps ∧ ms = ps ++ [(200, 0)]) ∨
    (∃ b h la ps qs, hp a = some (.inr (26, [.ref x0, .ref b, va_rf h, la, .ref x0])) ∧ cNd hp x0 n b ps ∧ cLk (cNd hp x0 n) hp false 96 h qs ∧ ms = ps ++ qs) ∨
    (∃ b h la ps qs, hp a = some (.inr (27, [.ref x0, .ref b, va_rf h, la, .ref x0, .ref x0])) ∧ cNd hp x0 n b ps ∧ cLk (cNd hp x0 n) hp true 96 h qs ∧ ms = ps ++ qs) ∨
    (∃ b e ps qs, hp a = some (.inr (16, [.ref b, .ref e, .ref x0, .ref x0, .ref x0])) ∧ cNd hp x0 n b ps ∧ cNd hp x0 n e qs ∧ ms = ps ++ (qs ++ [(208, 0)])) ∨
    (∃ b e ps qs, hp a = some (.inr (17, [.ref b, .ref e, .ref x0, .ref x0, .ref x0, .ref x0])) ∧ cNd hp x0 n b ps ∧ cNd hp x0 n e qs ∧ ms = ps ++ (qs ++ [(209, 0)])) ∨
    (∃ b e ps qs z m, hp a = some (.inr (29, [.ref b, .ref e, .ref x0, .ref x0, .int z, .ref x0])) ∧ cNd hp x0 n b ps ∧ cNd hp x0 n e qs ∧ ((z = 1 ∧ m = 206) ∨ (z = 0 ∧ m = 207)) ∧ ms = ps ++ (qs ++ [(m, 0)])) ∨
    (∃ b e f ps qs rs, hp a = some (.inr (14, [.ref x0, .ref b, .ref e, .ref f, .ref x0])) ∧ cNd hp x0 n b ps ∧ cNd hp x0 n e qs ∧ cNd hp x0 n f rs ∧ ms = ps ++ (qs ++ (rs ++ [(210, 0)]))) ∨
    (∃ ci t, 18 ≤ ci ∧ ci ≤ 22 ∧ t < 6 ∧ hp a = some (.inr (ci, cAk ci x0 t)) ∧ ms = [(300 + 10 * (ci - 18) + t, 0)])
/-- worth of a node of any class -/
def cDi (l : Launch) (g : zG) (d a ci : Nat) (hp : zHp) (nx : Nat) (PP : UInt64 → zHp → Nat → Prop) : Prop := ((ci = 14 → zMt l g yX14_worth cX14_worth 11 (some .double) d 0 0 (.ref a :: []) hp nx (zQd g PP)) ∧ (ci = 16 → zMt l g yX15_worth cX15_worth 5 (some .double) d 0 0 (.ref a :: []) hp nx (zQd g PP)) ∧ (ci = 17 → zMt l g yX15_worth cX15_worth 5 (some .double) d 0 0 (.ref a :: []) hp nx (zQd g PP)) ∧ (ci = 18 → zMt l g yX18_worth cX18_worth 2 (some .double) d 0 0 (.ref a :: []) hp nx (zQd g PP)) ∧ (ci = 19 → zMt l g yX18_worth cX18_worth 2 (some .double) d 0 0 (.ref a :: []) hp nx (zQd g PP)) ∧ (ci = 20 → zMt l g yX18_worth cX18_worth 2 (some .double) d 0 0 (.ref a :: []) hp nx (zQd g PP)) ∧ (ci = 21 → zMt l g yX18_worth cX18_worth 2 (some .double) d 0 0 (.ref a :: []) hp nx (zQd g PP)) ∧ (ci = 22 → zMt l g yX18_worth cX18_worth 2 (some .double) d 0 0 (.ref a :: []) hp nx (zQd g PP)) ∧ (ci = 23 → zMt l g yX23_worth cX23_worth 1 (some .double) d 0 0 (.ref a :: []) hp nx (zQd g PP)) ∧ (ci = 24 → zMt l g yX24_worth cX24_worth 1 (some .double) d 0 0 (.ref a :: []) hp nx (zQd g PP)) ∧ (ci = 25 → zMt l g yX25_worth cX25_worth 1 (some .double) d 0 0 (.ref a :: []) hp nx (zQd g PP)) ∧ (ci = 26 → zMt l g yX26_worth cX26_worth 4 (some .double) d 0 0 (.ref a :: []) hp nx (zQd g PP)) ∧ (ci = 27 → zMt l g yX26_worth cX26_worth 4 (some .double) d 0 0 (.ref a :: []) hp nx (zQd g PP)) ∧ (ci = 29 → zMt l g yX15_worth cX15_worth 5 (some .double) d 0 0 (.ref a :: []) hp nx (zQd g PP)))
/-- the state but for the fault -/
def cNo (σ : cS) : cS := cuI (cuI σ 2 0) 3 0
theorem cNo_2 : (cNo σ).2 = σ.2 := rfl
theorem cNo_1 {k : Nat} (h2 : k ≠ 2) (h3 : k ≠ 3) : (cNo σ).1 k = σ.1 k := by
  unfold cNo cuI
  simp only [va_o h2, va_o h3]
theorem cNo_i2 {v : Int32} : cNo (cuI σ 2 v) = cNo σ := by
  unfold cNo cuI
  simp only [Prod.mk.injEq, and_true]
  funext k
  by_cases e3 : k = 3
  · subst e3; simp only [va_s]
  · by_cases e2 : k = 2
    · subst e2; simp only [va_o e3, va_s]
    · simp only [va_o e3, va_o e2]
theorem cNo_i3 {v : Int32} : cNo (cuI σ 3 v) = cNo σ := by
  unfold cNo cuI
  simp only [Prod.mk.injEq, and_true]
  funext k
  by_cases e3 : k = 3
  · subst e3; simp only [va_s]
  · by_cases e2 : k = 2
    · subst e2; simp only [va_o e3, va_s]
    · simp only [va_o e3, va_o e2]
theorem cNo_fa {x : Int32} : cNo (cFa σ x) = cNo σ := by
  unfold cFa
  split
  · rw [cNo_i3, cNo_i2]
  · rfl
theorem cNo_ns {v : UInt64} : cNo (cNs σ v) = cNo σ := by
  unfold cNs
  by_cases h : s_far v
  · rw [s_if_p h, cNo_fa]
  · rw [s_if_n h]
theorem cI_s {k : Nat} {v : Int32} : (cuI σ k v).1 k = v := by unfold cuI; exact va_s
theorem cI_o {k j : Nat} {v : Int32} (h : j ≠ k) : (cuI σ k v).1 j = σ.1 j := by unfold cuI; exact va_o h
theorem cFa_p {x : Int32} (h : σ.1 2 = 0) : (cFa σ x).1 2 = x ∧ (cFa σ x).1 3 = σ.1 4 := by
  unfold cFa
  rw [if_pos h]
  exact ⟨by rw [cI_o (by decide), cI_s], by rw [cI_s]⟩
theorem cFa_n {x : Int32} (h : σ.1 2 ≠ 0) : cFa σ x = σ := by unfold cFa; rw [if_neg h]
/-- what came of a formula's part: the first fault stays -/
def cRs (σ : cS) (r : sT) (v : UInt64) (σ' : cS) : Prop := s_B v ∧ (σ.1 2 ≠ 0 → σ'.1 2 = σ.1 2 ∧ σ'.1 3 = σ.1 3) ∧ (σ.1 2 = 0 → (r.2.1 = 0 → v = r.1 ∧ σ'.1 2 = 0 ∧ σ'.1 3 = σ.1 3) ∧ (r.2.1 ≠ 0 → σ'.1 2 = r.2.1 ∧ σ'.1 3 = r.2.2))
theorem cRs_rf {r : sT} (h : r.2.1 = 0) (hB : s_B r.1) : cRs σ r r.1 σ := ⟨hB, fun _ => ⟨rfl, rfl⟩, fun h0 => ⟨fun _ => ⟨rfl, h0, rfl⟩, fun q => absurd h q⟩⟩
theorem cRs_two {σ0 σ1 σ2 σ3 : cS} {ra rb : sT} {v1 w v : UInt64} {c0 act : Nat} (h1 : cRs σ0 ra v1 σ1) (h2 : cRs σ1 rb w σ2) (ht : σ2.1 4 = nI c0) (hB : s_B v)
    (hA : (act ≤ 4 ∧ ¬ ((act = 4 ∨ act = 5) ∧ s_eq w 0) ∧ v = cNr (s_op act v1 w) ∧ σ3 = cNs σ2 (s_op act v1 w)) ∨ ((act = 4 ∨ act = 5) ∧ s_eq w 0 ∧ σ3 = cFa σ2 2) ∨ (5 ≤ act ∧ ¬ ((act = 4 ∨ act = 5) ∧ s_eq w 0) ∧ v = s_op act v1 w ∧ σ3 = σ2)) : cRs σ0 (s_two c0 act ra rb) v σ3 := by
  have hk : σ2.1 2 ≠ 0 → σ3 = σ2 := by
    intro q
    rcases hA with ⟨-, -, -, e⟩ | ⟨-, -, e⟩ | ⟨-, -, -, e⟩
    · rw [e]
      unfold cNs
      by_cases hf : s_far (s_op act v1 w)
      · rw [s_if_p hf, cFa_n q]
      · rw [s_if_n hf]
    · rw [e, cFa_n q]
    · exact e
  refine ⟨hB, fun q => ?_, fun q => ?_⟩
  · have a := h1.2.1 q
    have b := h2.2.1 (by rw [a.1]; exact q)
    rw [hk (by rw [b.1, a.1]; exact q)]
    exact ⟨b.1.trans a.1, b.2.trans a.2⟩
  · by_cases ea : ra.2.1 = 0
    · obtain ⟨rfl, a2, a3⟩ := (h1.2.2 q).1 ea
      by_cases eb : rb.2.1 = 0
      · obtain ⟨rfl, b2, b3⟩ := (h2.2.2 a2).1 eb
        have e0 : s_two c0 act ra rb = s_if ((act = 4 ∨ act = 5) ∧ s_eq rb.1 0) (ra.1, 2, nI c0) (s_if (act ≤ 4 ∧ s_far (s_op act ra.1 rb.1)) (s_op act ra.1 rb.1, 3, nI c0) (s_op act ra.1 rb.1, ra.2)) := by
          unfold s_two
          rw [if_neg (fun z => z ea), if_neg (fun z => z eb)]
        rw [e0]
        rcases hA with ⟨h4, hz, ev, es⟩ | ⟨h4, hz, es⟩ | ⟨h5, hz, ev, es⟩
        · rw [s_if_n hz]
          by_cases hf : s_far (s_op act ra.1 rb.1)
          · rw [s_if_p ⟨h4, hf⟩]
            refine ⟨fun z => absurd z (by show ¬ (3 : Int32) = 0; decide), fun _ => ?_⟩
            rw [es]
            unfold cNs
            rw [s_if_p hf, (cFa_p b2).1, (cFa_p b2).2, ht]
            exact ⟨rfl, rfl⟩
          · rw [s_if_n (fun z => hf z.2)]
            refine ⟨fun _ => ?_, fun z => absurd ea z⟩
            rw [es, ev]
            unfold cNs cNr
            rw [s_if_n hf, s_if_n hf]
            exact ⟨rfl, b2, b3.trans a3⟩
        · rw [s_if_p ⟨h4, hz⟩]
          refine ⟨fun z => absurd z (by show ¬ (2 : Int32) = 0; decide), fun _ => ?_⟩
          rw [es, (cFa_p b2).1, (cFa_p b2).2, ht]
          exact ⟨rfl, rfl⟩
        · rw [s_if_n hz, s_if_n (fun z => by omega)]
          refine ⟨fun _ => ?_, fun z => absurd ea z⟩
          rw [es, ev]
          exact ⟨rfl, b2, b3.trans a3⟩
      · have b := (h2.2.2 a2).2 eb
        have e0 : s_two c0 act ra rb = (ra.1, rb.2) := by unfold s_two; rw [if_neg (fun z => z ea), if_pos eb]
        rw [e0, hk (by rw [b.1]; exact eb)]
        exact ⟨fun z => absurd z eb, fun _ => b⟩
    · have a := (h1.2.2 q).2 ea
      have b := h2.2.1 (by rw [a.1]; exact ea)
      have e0 : s_two c0 act ra rb = ra := by unfold s_two; rw [if_pos ea]
      rw [e0, hk (by rw [b.1, a.1]; exact ea)]
      exact ⟨fun z => absurd z ea, fun _ => ⟨b.1.trans a.1, b.2.trans a.2⟩⟩
end ND
