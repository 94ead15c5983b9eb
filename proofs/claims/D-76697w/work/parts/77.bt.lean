set_option maxRecDepth 100000
/-! sets as bits -/
section BT
def bs (x : Int32) (k : Nat) : Bool := x.toBitVec.getLsbD k
theorem b_or {x y : Int32} {k : Nat} : bs (x ||| y) k = (bs x k || bs y k) := by unfold bs; simp
theorem b_and {x y : Int32} {k : Nat} : bs (x &&& y) k = (bs x k && bs y k) := by unfold bs; simp
theorem b_hi {x : Int32} {k : Nat} (h : 32 ≤ k) : bs x k = false := by unfold bs; exact BitVec.getLsbD_of_ge _ _ h
theorem b_m1 {k : Nat} (h : k < 32) : bs (-1 : Int32) k = true := by
  unfold bs
  have : (-1 : Int32).toBitVec = BitVec.allOnes 32 := by decide
  rw [this, BitVec.getLsbD_allOnes]
  simpa using h
theorem b_not {x : Int32} {k : Nat} (h : k < 32) : bs (x ^^^ (-1 : Int32)) k = !bs x k := by
  have h2 := b_m1 h
  unfold bs at h2 ⊢
  rw [Int32.toBitVec_xor, BitVec.getLsbD_xor, h2]
  simp
theorem b_ext {x y : Int32} (h : ∀ k, k < 32 → bs x k = bs y k) : x = y := by
  apply Int32.toBitVec_inj.mp
  apply BitVec.eq_of_getLsbD_eq
  intro i hi
  exact h i hi
theorem b_0 {k : Nat} : bs 0 k = false := by
  unfold bs
  have : (0 : Int32).toBitVec = 0#32 := by decide
  rw [this]
  simp
theorem b_mk {c : Nat} (hc : c < 32) : nI c &&& 31 = nI c := by
  have := pk_andN (n := c) (by omega) (m := 31) 5 (by decide)
  rw [this, Nat.mod_eq_of_lt (by omega)]
theorem b_sm {c : Nat} (hc : c < 32) : ((nI c).toBitVec.smod 32).toNat = c := by
  have : ∀ c : Fin 32, ((nI c.val).toBitVec.smod 32).toNat = c.val := by decide
  exact this ⟨c, hc⟩
theorem b_sh {c : Nat} (hc : c < 32) : (1 : Int32) <<< (nI c &&& 31) = nI (2 ^ c) := by
  rw [b_mk hc]
  have := pk_shlN (n := 1) (nI c) c (b_sm hc) (by rw [Nat.one_mul]; exact Nat.pow_lt_pow_right (by decide) hc)
  rw [Nat.one_mul] at this
  exact this
theorem b_nI {n k : Nat} : bs (nI n) k = (decide (k < 32) && n.testBit k) := by
  unfold bs
  have : (nI n).toBitVec = BitVec.ofNat 32 n := rfl
  rw [this, BitVec.getLsbD_ofNat]
theorem b_one {c k : Nat} (hc : c < 32) : bs ((1 : Int32) <<< (nI c &&& 31)) k = decide (k = c) := by
  rw [b_sh hc, b_nI, Nat.testBit_two_pow]
  by_cases h : k = c
  · subst h; simp [hc]
  · have : ¬ c = k := fun e => h e.symm
    simp [h, this]
theorem b_shr {x : Int32} {c : Nat} (hc : c < 32) : ((x >>> (nI c &&& 31)) &&& (1 : Int32)) = if bs x c = true then 1 else 0 := by
  apply Int32.toBitVec_inj.mp
  rw [Int32.toBitVec_and, b_mk hc, Int32.toBitVec_shiftRight]
  have e1 : (1 : Int32).toBitVec = 1#32 := by decide
  rw [e1, BitVec.and_one_eq_setWidth_ofBool_getLsbD]
  have e2 : ((nI c).toBitVec.smod 32).toNat = c := b_sm hc
  have e3 : BitVec.getLsbD (x.toBitVec.sshiftRight' ((nI c).toBitVec.smod 32)) 0 = bs x c := by
    rw [BitVec.sshiftRight', e2, BitVec.getLsbD_sshiftRight]
    unfold bs
    simp [hc]
  rw [e3]
  cases bs x c <;> decide
theorem b_t1 {x : Int32} {c : Nat} (hc : c < 32) : ((x >>> (nI c &&& 31)) &&& (1 : Int32)) = (1 : Int32) ↔ bs x c = true := by
  rw [b_shr hc]
  cases bs x c <;> simp
theorem b_t0 {x : Int32} {c : Nat} (hc : c < 32) : ((x >>> (nI c &&& 31)) &&& (1 : Int32)) = 0 ↔ ¬ bs x c = true := by
  rw [b_shr hc]
  cases bs x c <;> simp
/-- the set of those below n with P -/
noncomputable def s_ms (P : Nat → Prop) : Nat → Int32
  | 0 => 0
  | n + 1 => s_ms P n ||| s_if (P n) ((1 : Int32) <<< (nI n &&& 31)) 0
theorem s_ms_b {P : Nat → Prop} : ∀ {n k : Nat}, n ≤ 32 → (bs (s_ms P n) k = true ↔ k < n ∧ P k) := by
  intro n
  induction n with
  | zero => intro k _; simp [s_ms, b_0]
  | succ n ih =>
    intro k hn
    simp only [s_ms, b_or, Bool.or_eq_true, ih (k := k) (by omega)]
    by_cases hp : P n
    · rw [s_if_p hp, b_one (by omega)]
      simp only [decide_eq_true_eq]
      constructor
      · rintro (h | h)
        · exact ⟨by omega, h.2⟩
        · subst h; exact ⟨by omega, hp⟩
      · rintro ⟨h1, h2⟩
        by_cases e : k = n
        · exact Or.inr e
        · exact Or.inl ⟨by omega, h2⟩
    · rw [s_if_n hp, b_0]
      constructor
      · rintro (h | h)
        · exact ⟨by omega, h.2⟩
        · cases h
      · rintro ⟨h1, h2⟩
        by_cases e : k = n
        · subst e; exact absurd h2 hp
        · exact Or.inl ⟨by omega, h2⟩
theorem s_ms_eq {P : Nat → Prop} {n : Nat} {x : Int32} (hn : n ≤ 32) (h : ∀ k, bs x k = true ↔ k < n ∧ P k) : x = s_ms P n := by
  refine b_ext fun k _ => ?_
  have h1 := h k
  have h2 := s_ms_b (P := P) (k := k) hn
  cases ha : bs x k <;> cases hb : bs (s_ms P n) k <;> simp_all
/-! how often a table is named -/
def s_tt : List sM → Nat → Nat
  | [], _ => 0
  | m :: ms, t => s_tt ms t + if 300 ≤ m.1 ∧ m.1 % 10 = t then 1 else 0
theorem s_tt_append {t : Nat} : ∀ {a b : List sM}, s_tt (a ++ b) t = s_tt a t + s_tt b t := by
  intro a
  induction a with
  | nil => intro b; simp [s_tt]
  | cons m a ih => intro b; simp only [List.cons_append, s_tt, ih]; omega
theorem s_tt_le {t : Nat} : ∀ {a : List sM}, s_tt a t ≤ a.length := by
  intro a
  induction a with
  | nil => simp [s_tt]
  | cons m a ih => simp only [s_tt, List.length_cons]; split <;> omega
theorem s_tt_pos {t : Nat} : ∀ {a : List sM}, 0 < s_tt a t ↔ ∃ m ∈ a, 300 ≤ m.1 ∧ m.1 % 10 = t := by
  intro a
  induction a with
  | nil => simp [s_tt]
  | cons m a ih =>
    simp only [s_tt, List.mem_cons]
    constructor
    · intro h
      by_cases hm : 300 ≤ m.1 ∧ m.1 % 10 = t
      · exact ⟨m, Or.inl rfl, hm⟩
      · rw [if_neg hm] at h
        obtain ⟨x, hx, h2⟩ := ih.mp (by omega)
        exact ⟨x, Or.inr hx, h2⟩
    · rintro ⟨x, rfl | hx, h2⟩
      · rw [if_pos h2]; omega
      · have := ih.mpr ⟨x, hx, h2⟩; omega
theorem s_sm_add {f h : Nat → Nat} : ∀ {n : Nat}, s_sm (fun t => f t + h t) n = s_sm f n + s_sm h n := by
  intro n
  induction n with
  | zero => rfl
  | succ n ih => simp only [s_sm, ih]; omega
theorem s_sm_pt {F : Nat → Nat} {u : Nat} : ∀ {n : Nat}, u < n → s_sm (fun t => (if u = t then 1 else 0) * F t) n = F u := by
  intro n
  induction n with
  | zero => intro h; omega
  | succ n ih =>
    intro h
    simp only [s_sm]
    by_cases e : u = n
    · subst e
      rw [if_pos rfl, Nat.one_mul]
      have : s_sm (fun t => (if u = t then 1 else 0) * F t) u = s_sm (fun _ => 0) u := s_sm_congr (fun k hk => by rw [if_neg (by omega), Nat.zero_mul])
      rw [this, s_sm_zero]
      omega
    · rw [if_neg e, Nat.zero_mul, ih (by omega)]
      rfl
/-- over the marks, over the tables -/
theorem s_tt_sum {F : Nat → Nat} : ∀ {ms : List sM}, (∀ m ∈ ms, 300 ≤ m.1 → m.1 % 10 < 6) → (ms.map (fun m => if 300 ≤ m.1 then F (m.1 % 10) else 0)).sum = s_sm (fun t => s_tt ms t * F t) 6 := by
  intro ms
  induction ms with
  | nil => intro _; simp only [s_tt, Nat.zero_mul, s_sm_zero]; rfl
  | cons m ms ih =>
    intro h
    have e := ih (fun x hx => h x (List.mem_cons_of_mem _ hx))
    simp only [List.map_cons, List.sum_cons, e, s_tt, Nat.add_mul, s_sm_add]
    by_cases h3 : 300 ≤ m.1
    · rw [if_pos h3]
      have : s_sm (fun t => (if 300 ≤ m.1 ∧ m.1 % 10 = t then 1 else 0) * F t) 6 = F (m.1 % 10) := by
        rw [← s_sm_pt (F := F) (h m (List.mem_cons_self ..) h3)]
        refine s_sm_congr (fun k hk => ?_)
        simp only [h3, true_and]
      rw [this]
      omega
    · rw [if_neg h3]
      have : s_sm (fun t => (if 300 ≤ m.1 ∧ m.1 % 10 = t then 1 else 0) * F t) 6 = s_sm (fun _ => 0) 6 := s_sm_congr (fun k hk => by rw [if_neg (fun q => h3 q.1), Nat.zero_mul])
      rw [this, s_sm_zero]
      omega
end BT
