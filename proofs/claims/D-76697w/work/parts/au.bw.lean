set_option maxRecDepth 100000
/-! the sheet's BitSets -/
section BW
variable {l : Launch} {g : zG} {d x0 : Nat} {P : cP} {σ σ' σ1 σ2 : cS} {hp : zHp} {nx : Nat} {b : Nat} {p p2 : Nat → Prop}
def cuB (σ : cS) (b : Nat) (v : (Nat → Int64) × Int32) : cS := cuX σ (σ.2.2.2.2.1, σ.2.2.2.2.2.1, σ.2.2.2.2.2.2.1, va_up σ.2.2.2.2.2.2.2.1 b v, σ.2.2.2.2.2.2.2.2)
theorem kB_s {v : (Nat → Int64) × Int32} : (cuB σ b v).2.2.2.2.2.2.2.1 b = v := by unfold cuB cuX; exact va_s
theorem kB_o {v : (Nat → Int64) × Int32} {e : Nat} (h : e ≠ b) : (cuB σ b v).2.2.2.2.2.2.2.1 e = σ.2.2.2.2.2.2.2.1 e := by unfold cuB cuX; exact va_o h
theorem kB_id : cuB σ b (σ.2.2.2.2.2.2.2.1 b) = σ := by unfold cuB cuX; simp only [cva_id]
theorem kB_n {f : Nat → Int64} {n n' : Int32} : cuBn (cuB σ b (f, n)) b n' = cuB σ b (f, n') := by
  unfold cuBn cuB cuX
  simp only [va_s, cva_uu]
theorem kB_w {f f' : Nat → Int64} {n : Int32} : cuBw (cuB σ b (f, n)) b f' = cuB σ b (f', n) := by
  unfold cuBw cuB cuX
  simp only [va_s, cva_uu]
theorem c_bH (hW : cW g x0 P hp) (hb : b < 49) : bHf g (fun f n => cput g x0 P (cuB σ b (f, n)) hp) (x0 + cBA b) (x0 + (cBA b + 1)) := by
  have := hW.1
  refine ⟨by omega, by omega, fun f n => ?_, fun f n => ?_, fun f n f' => ?_, fun f n n' => ?_⟩
  · dsimp only
    rw [cput_b hb, kB_s]
  · dsimp only
    rw [cput_w hb, kB_s]
  · dsimp only
    rw [cb_uw hb, kB_w]
  · dsimp only
    rw [cb_un hb, kB_n]
theorem c_b0 : cput g x0 P σ hp = (fun f n => cput g x0 P (cuB σ b (f, n)) hp) (σ.2.2.2.2.2.2.2.1 b).1 (σ.2.2.2.2.2.2.2.1 b).2 := by
  show _ = cput g x0 P (cuB σ b ((σ.2.2.2.2.2.2.2.1 b).1, (σ.2.2.2.2.2.2.2.1 b).2)) hp
  rw [show ((σ.2.2.2.2.2.2.2.1 b).1, (σ.2.2.2.2.2.2.2.1 b).2) = σ.2.2.2.2.2.2.2.1 b from rfl, kB_id]
theorem cBs.cg {v : (Nat → Int64) × Int32} (h : cBs v p) (e : ∀ x, x < 64 → (p x ↔ p2 x)) : cBs v p2 := ⟨h.1, fun x hx => (h.2 x hx).trans (e x hx)⟩
theorem c_bclear (hW : cW g x0 P hp) (hb : b < 49) (h : cBs (σ.2.2.2.2.2.2.2.1 b) p) (hd : 1 ≤ d) {K : zHp → Nat → Prop} (hK : ∀ v, cBs v (fun _ => False) → K (cput g x0 P (cuB σ b v) hp) nx) : zMt l g yJ0_clear cJ0_clear 1 none d 0 0 [.ref (x0 + cBA b)] (cput g x0 P σ hp) nx (zQv g K) := by
  rw [c_b0 (b := b)]
  refine b_clear (c_bH hW hb) h.1 hd (fun f' e => hK (f', 0) ⟨?_, fun x _ => ?_⟩)
  · show (0 : Int32) = if f' 0 = 0 then 0 else 1
    rw [if_pos e]
  · show lb (f' 0) x = true ↔ False
    rw [e, lb_z]
    exact ⟨fun z => (by cases z), fun z => z.elim⟩
theorem c_bset (hW : cW g x0 P hp) (hb : b < 49) (h : cBs (σ.2.2.2.2.2.2.2.1 b) p) {k : Nat} (hk : k < 64) (hd : 3 ≤ d) {K : zHp → Nat → Prop} (hK : ∀ v, cBs v (fun x => p x ∨ x = k) → K (cput g x0 P (cuB σ b v) hp) nx) : zMt l g yJ0_set cJ0_set 3 none d 0 0 [.ref (x0 + cBA b), .int (nI k)] (cput g x0 P σ hp) nx (zQv g K) := by
  rw [c_b0 (b := b)]
  refine b_set (c_bH hW hb) h.1 hk hd (fun f' e hU => hK (f', 1) ⟨hU, fun x hx => ?_⟩)
  show lb (f' 0) x = true ↔ (p x ∨ x = k)
  rw [e, lb_or, lb_bit hk, Bool.or_eq_true, decide_eq_true_eq, h.2 x hx]
theorem c_bclr (hW : cW g x0 P hp) (hb : b < 49) (h : cBs (σ.2.2.2.2.2.2.2.1 b) p) {k : Nat} (hk : k < 64) (hd : 2 ≤ d) {K : zHp → Nat → Prop} (hK : ∀ v, cBs v (fun x => p x ∧ x ≠ k) → K (cput g x0 P (cuB σ b v) hp) nx) : zMt l g yJ0_clear_2 cJ0_clear_2 3 none d 0 0 [.ref (x0 + cBA b), .int (nI k)] (cput g x0 P σ hp) nx (zQv g K) := by
  rw [c_b0 (b := b)]
  refine b_clr (c_bH hW hb) h.1 hk hd (fun f' n' hU e => hK (f', n') ⟨hU, fun x hx => ?_⟩)
  show lb (f' 0) x = true ↔ (p x ∧ x ≠ k)
  rw [e x hx, h.2 x hx]
theorem c_bor {b2 : Nat} (hW : cW g x0 P hp) (hb : b < 49) (hb2 : b2 < 49) (hne : b2 ≠ b) (h : cBs (σ.2.2.2.2.2.2.2.1 b) p) (h2 : cBs (σ.2.2.2.2.2.2.2.1 b2) p2) (hd : 2 ≤ d) {K : zHp → Nat → Prop} (hK : ∀ v, cBs v (fun x => p x ∨ p2 x) → K (cput g x0 P (cuB σ b v) hp) nx) : zMt l g yJ0_or cJ0_or 4 none d 0 0 [.ref (x0 + cBA b), va_rf (some (x0 + cBA b2))] (cput g x0 P σ hp) nx (zQv g K) := by
  rw [c_b0 (b := b)]
  have hA : x0 + cBA b2 ≠ x0 + cBA b := by
    unfold cBA
    split <;> split <;> (try split) <;> (try split) <;> omega
  refine b_join (c_bH hW hb) h.1 hA (w := (σ.2.2.2.2.2.2.2.1 b2).1 0) (fun f n => ?_) hd (fun f' n' e hU => hK (f', n') ⟨hU, fun x hx => ?_⟩)
  · have := c_bo (g := g) (x0 := x0) (P := P) (hp := hp) (σ := cuB σ b (f, n)) (b := b2) (p := p2) hb2 (by rw [kB_o hne]; exact h2)
    rw [kB_o hne] at this
    exact this
  · show lb (f' 0) x = true ↔ (p x ∨ p2 x)
    rw [e, lb_or, Bool.or_eq_true, h.2 x hx, h2.2 x hx]
theorem c_bnext {i : Nat} (hb : b < 49) (h : cBs (σ.2.2.2.2.2.2.2.1 b) p) (h24 : ∀ x, p x → x < 24) (hi : i ≤ 24) (hd : 3 ≤ d) {K : Int32 → zHp → Nat → Prop} (h1 : ∀ k, i ≤ k → k < 24 → p k → (∀ q, i ≤ q → q < k → ¬ p q) → K (nI k) (cput g x0 P σ hp) nx) (h0 : (∀ q, i ≤ q → q < 24 → ¬ p q) → K (-1) (cput g x0 P σ hp) nx) : zMt l g yJ0_nextSetBit cJ0_nextSetBit 5 (some .int) d 0 0 [.ref (x0 + cBA b), .int (nI i)] (cput g x0 P σ hp) nx (zQi g K) := by
  refine b_next (c_bo hb h) (fun q hq z => h24 q ((h.2 q hq).mp z)) hi hd (fun k k1 k2 k3 k4 => h1 k k1 k2 ((h.2 k (by omega)).mp k3) (fun q q1 q2 z => ?_)) (fun z => h0 (fun q q1 q2 y => ?_))
  · have := k4 q q1 q2
    rw [(h.2 q (by omega)).mpr z] at this
    cases this
  · have := z q q1 (by omega)
    rw [(h.2 q (by omega)).mpr y] at this
    cases this
/-- what the reading of a cell's names leaves alone -/
def cFc (c : Nat) (σ σ' : cS) : Prop := σ'.1 = σ.1 ∧ σ'.2.1 = σ.2.1 ∧ σ'.2.2.1 = σ.2.2.1 ∧ σ'.2.2.2.1 = σ.2.2.2.1 ∧ (∀ k, k ≠ 14 → σ'.2.2.2.2.1 k = σ.2.2.2.2.1 k) ∧ (∀ j, j ≠ c → σ'.2.2.2.2.1 14 j = σ.2.2.2.2.1 14 j) ∧ σ'.2.2.2.2.2.1 = σ.2.2.2.2.2.1 ∧ σ'.2.2.2.2.2.2.1 = σ.2.2.2.2.2.2.1 ∧ (∀ e, e ≠ c → e ≠ 24 + c → e ≠ 48 → σ'.2.2.2.2.2.2.2.1 e = σ.2.2.2.2.2.2.2.1 e) ∧ σ'.2.2.2.2.2.2.2.2 = σ.2.2.2.2.2.2.2.2
theorem cFc.rf {c : Nat} : cFc c σ σ := ⟨rfl, rfl, rfl, rfl, fun _ _ => rfl, fun _ _ => rfl, rfl, rfl, fun _ _ _ _ => rfl, rfl⟩
theorem cFc.tr {c : Nat} (h1 : cFc c σ σ1) (h2 : cFc c σ1 σ2) : cFc c σ σ2 :=
  ⟨h2.1.trans h1.1, h2.2.1.trans h1.2.1, h2.2.2.1.trans h1.2.2.1, h2.2.2.2.1.trans h1.2.2.2.1, fun k q => (h2.2.2.2.2.1 k q).trans (h1.2.2.2.2.1 k q), fun j q => (h2.2.2.2.2.2.1 j q).trans (h1.2.2.2.2.2.1 j q), h2.2.2.2.2.2.2.1.trans h1.2.2.2.2.2.2.1, h2.2.2.2.2.2.2.2.1.trans h1.2.2.2.2.2.2.2.1, fun e a b c => (h2.2.2.2.2.2.2.2.2.1 e a b c).trans (h1.2.2.2.2.2.2.2.2.1 e a b c), h2.2.2.2.2.2.2.2.2.2.trans h1.2.2.2.2.2.2.2.2.2⟩
theorem cFc_b {c : Nat} {v : (Nat → Int64) × Int32} (hb : b = c ∨ b = 24 + c ∨ b = 48) : cFc c σ (cuB σ b v) :=
  ⟨rfl, rfl, rfl, rfl, fun _ _ => rfl, fun _ _ => rfl, rfl, rfl, fun e q1 q2 q3 => kB_o (by rcases hb with h | h | h <;> omega), rfl⟩
theorem cFc_a {c : Nat} {x : Int32} : cFc c σ (cuA σ 14 (va_up (σ.2.2.2.2.1 14) c x)) :=
  ⟨rfl, rfl, rfl, rfl, fun k q => kA_o q, fun j q => by rw [kA_s, va_o q], rfl, rfl, fun e _ _ _ => rfl, rfl⟩
end BW
