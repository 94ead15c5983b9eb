set_option maxRecDepth 100000
/-! BitSets of one word: get; what varies is kept -/
section BX
variable {l : Launch} {g : zG} {d x0 : Nat} {P : cP} {σ σ' σ1 : cS} {hp : zHp} {nx : Nat}
def lb (x : Int64) (k : Nat) : Bool := x.toBitVec.getLsbD k
theorem lb_sh : ∀ k, k < 64 → ((1 : Int64) <<< ((nI k).toInt64 &&& 63)).toBitVec = BitVec.twoPow 64 k := by decide +kernel
theorem lb_0 {x : Int64} : x = 0 ↔ x.toBitVec = 0#64 := ⟨fun h => by rw [h]; rfl, fun h => Int64.toBitVec_inj.mp h⟩
theorem lb_and {x : Int64} {k : Nat} (hk : k < 64) : x &&& ((1 : Int64) <<< ((nI k).toInt64 &&& 63)) = 0 ↔ lb x k = false := by
  rw [lb_0, Int64.toBitVec_and, lb_sh k hk, BitVec.and_twoPow]
  unfold lb
  cases h : x.toBitVec.getLsbD k
  · simp
  · simp only [if_true]
    refine ⟨fun z => ?_, fun z => by cases z⟩
    have := congrArg (fun b => b.getLsbD k) z
    simp [BitVec.getLsbD_twoPow, hk] at this
theorem lb_z (k : Nat) : lb 0 k = false := by
  unfold lb
  show (0#64).getLsbD k = false
  simp
theorem hz_o {a ci : Nat} {fs : List Value} (h : hp a = some (.inr (ci, fs))) {S : List Nat} (hS : ci ∈ S) {K : Nat → Nat → List Value → Prop} : zo hp (some a) S K = K a ci fs := by
  unfold zo; simp only [h, hS, true_and]
theorem hz_I {a ci k : Nat} {fs : List Value} (h : hp a = some (.inr (ci, fs))) {x : Int32} (hv : fs[k]? = some (.int x)) {S : List Nat} (hS : ci ∈ S) {K : Int32 → Prop} : zgI hp (some a) S k K = K x := by unfold zgI; rw [hz_o h hS, hv]; rfl
theorem hz_D {a ci k : Nat} {fs : List Value} (h : hp a = some (.inr (ci, fs))) {x : UInt64} (hv : fs[k]? = some (.double x)) {S : List Nat} (hS : ci ∈ S) {K : UInt64 → Prop} : zgD hp (some a) S k K = K x := by unfold zgD; rw [hz_o h hS, hv]; rfl
theorem hz_R {a ci k : Nat} {fs : List Value} (h : hp a = some (.inr (ci, fs))) {r : Option Nat} (hv : fs[k]? = some (va_rf r)) {S : List Nat} (hS : ci ∈ S) {K : Option Nat → Prop} : zgR hp (some a) S k K = K r := by unfold zgR; rw [hz_o h hS, hv]; cases r <;> rfl
theorem hz_aJ {K : Nat → Nat → (Nat → Int64) → Prop} {n : Nat} {f : Nat → Int64} {a : Nat} (h : hp a = some (.inl (g.2.1 4, n, .inr (.inl f)))) : zaJ (g.2.1 4) hp (some a) K = K a n f := by
  unfold zaJ; simp only [h, true_and]
theorem hz_aD {K : Nat → Nat → (Nat → UInt64) → Prop} {n : Nat} {f : Nat → UInt64} {a : Nat} (h : hp a = some (.inl (g.2.1 1, n, .inr (.inr (.inr (.inl f)))))) : zaD (g.2.1 1) hp (some a) K = K a n f := by
  unfold zaD; simp only [h, true_and]
/-- a BitSet of one word at a, its bits w -/
def cBo (g : zG) (hp : zHp) (a : Nat) (w : Int64) : Prop := ∃ b f, hp a = some (.inr (34, [.ref b, .int (if w = 0 then 0 else 1), .int 1])) ∧ hp b = some (.inl (g.2.1 4, 1, .inr (.inl f))) ∧ f 0 = w
theorem b_inv {a : Nat} {K : zHp → Nat → Prop} (hd : 1 ≤ d) (hK : K hp nx) : zMt l g yJ0_checkInvariants cJ0_checkInvariants 1 none d 0 0 [.ref a] hp nx (zQv g K) := by
  obtain ⟨d, rfl⟩ := Nat.exists_eq_add_of_le' (show 1 ≤ d by omega)
  apply met_J0_checkInvariants
  unfold wp_J0_checkInvariants
  refine ⟨True, fun _ => ⟨True, fun _ => ⟨True, fun _ => hK, fun z => absurd z (by decide), fun _ => trivial⟩, fun z => absurd z (by decide), fun _ => trivial⟩, fun z => absurd z (by decide), fun _ => trivial⟩
theorem b_wi {k : Nat} {K : Int32 → zHp → Nat → Prop} (hd : 1 ≤ d) (hk : k < 64) (hK : K 0 hp nx) : zMt l g yJ0_wordIndex cJ0_wordIndex 1 (some .int) d 0 0 [.int (nI k)] hp nx (zQi g K) := by
  obtain ⟨d, rfl⟩ := Nat.exists_eq_add_of_le' (show 1 ≤ d by omega)
  apply met_J0_wordIndex
  unfold wp_J0_wordIndex
  have : nI k >>> ((6 : Int32) &&& 31) = 0 := (show ∀ k, k < 64 → nI k >>> ((6 : Int32) &&& 31) = 0 by decide +kernel) k hk
  rw [this]
  exact hK
theorem b_get {a k : Nat} {w : Int64} {K : Int32 → zHp → Nat → Prop} (hd : 2 ≤ d) (hb : cBo g hp a w) (hk : k < 64) (h1 : lb w k = true → K 1 hp nx) (h0 : lb w k = false → K 0 hp nx) : zMt l g yJ0_get cJ0_get 3 (some .boolean) d 0 0 [.ref a, .int (nI k)] hp nx (zQi g K) := by
  obtain ⟨d, rfl⟩ := Nat.exists_eq_add_of_le' (show 1 ≤ d by omega)
  obtain ⟨b, f, hA, hB, hf⟩ := hb
  apply met_J0_get
  unfold wp_J0_get
  refine ⟨fun _ => ?_, fun z => absurd (nI_pos' (by omega)) z⟩
  refine zo_i rfl hA (by decide) ?_
  refine b_inv (by omega) ?_
  refine b_wi (by omega) hk ?_
  rw [hz_I hA (x := if w = 0 then 0 else 1) rfl (by decide)]
  refine ⟨_, fun _ _ _ _ h => h, ?_⟩
  refine ⟨fun _ hp1 nx1 => K 0 hp1 nx1, fun _ _ _ h => ⟨Or.inl rfl, h⟩, ?_⟩
  refine ⟨fun z => ?_, fun z => ?_⟩
  · have : w = 0 := by
      by_cases e : w = 0
      · exact e
      · rw [if_neg e] at z; exact absurd z (by decide)
    exact h0 (by rw [this]; exact lb_z k)
  · rw [hz_R hA (r := some b) rfl (by decide), hz_aJ hB]
    refine ⟨vp_in_nI (n := 0) (by decide) (by decide), ?_⟩
    intro x_24 e24
    have e24 : x_24 = w := by rw [e24, ← hf]; rfl
    subst e24
    refine ⟨fun q => ?_, fun q => ?_⟩
    · exact h0 ((lb_and hk).mp ((lg_cmp_eq _ _).mp q))
    · refine ⟨Or.inr rfl, h1 ?_⟩
      cases h : lb x_24 k
      · exact absurd ((lg_cmp_eq _ _).mpr ((lb_and hk).mpr h)) q
      · rfl
end BX
