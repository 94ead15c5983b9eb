set_option maxRecDepth 100000
/-! the rows of the component's world: what is read, what is written -/
section CR
variable {g : zG} {x0 : Nat} {P : cP} {σ : cS} {hp : zHp}
def cuI (σ : cS) (k : Nat) (v : Int32) : cS := (va_up σ.1 k v, σ.2)
def cuN (σ : cS) (r : Option Nat) : cS := (σ.1, r, σ.2.2)
def cuT (σ : cS) (s : Nat) (v : Int32) : cS := (σ.1, σ.2.1, va_up σ.2.2.1 s ((σ.2.2.1 s).1, (σ.2.2.1 s).2.1, v), σ.2.2.2)
def cuGI (σ : cS) (s k : Nat) (f : Nat → Int32) : cS := (σ.1, σ.2.1, va_up σ.2.2.1 s (va_up (σ.2.2.1 s).1 k f, (σ.2.2.1 s).2), σ.2.2.2)
def cuGD (σ : cS) (s k : Nat) (f : Nat → UInt64) : cS := (σ.1, σ.2.1, va_up σ.2.2.1 s ((σ.2.2.1 s).1, va_up (σ.2.2.1 s).2.1 k f, (σ.2.2.1 s).2.2), σ.2.2.2)
def cuO (σ : cS) (c : Nat) (v : UInt64) : cS := (σ.1, σ.2.1, σ.2.2.1, va_up σ.2.2.2.1 c v, σ.2.2.2.2)
def cuX (σ : cS) (X : cX) : cS := (σ.1, σ.2.1, σ.2.2.1, σ.2.2.2.1, X)
def cuA (σ : cS) (k : Nat) (f : Nat → Int32) : cS := cuX σ (va_up σ.2.2.2.2.1 k f, σ.2.2.2.2.2)
def cuD (σ : cS) (k : Nat) (f : Nat → UInt64) : cS := cuX σ (σ.2.2.2.2.1, va_up σ.2.2.2.2.2.1 k f, σ.2.2.2.2.2.2)
def cuR (σ : cS) (k : Nat) (f : Nat → Option Nat) : cS := cuX σ (σ.2.2.2.2.1, σ.2.2.2.2.2.1, va_up σ.2.2.2.2.2.2.1 k f, σ.2.2.2.2.2.2.2)
def cuBn (σ : cS) (b : Nat) (v : Int32) : cS := cuX σ (σ.2.2.2.2.1, σ.2.2.2.2.2.1, σ.2.2.2.2.2.2.1, va_up σ.2.2.2.2.2.2.2.1 b ((σ.2.2.2.2.2.2.2.1 b).1, v), σ.2.2.2.2.2.2.2.2)
def cuBw (σ : cS) (b : Nat) (f : Nat → Int64) : cS := cuX σ (σ.2.2.2.2.1, σ.2.2.2.2.2.1, σ.2.2.2.2.2.2.1, va_up σ.2.2.2.2.2.2.2.1 b (f, (σ.2.2.2.2.2.2.2.1 b).2), σ.2.2.2.2.2.2.2.2)
def cuQ (σ : cS) (Q : (Nat → Option Nat) × Int32 × Int32) : cS := cuX σ (σ.2.2.2.2.1, σ.2.2.2.2.2.1, σ.2.2.2.2.2.2.1, σ.2.2.2.2.2.2.2.1, Q, σ.2.2.2.2.2.2.2.2.2)
def cuW (σ : cS) (f : Nat → Option Nat) : cS := cuX σ (σ.2.2.2.2.1, σ.2.2.2.2.2.1, σ.2.2.2.2.2.2.1, σ.2.2.2.2.2.2.2.1, σ.2.2.2.2.2.2.2.2.1, f, σ.2.2.2.2.2.2.2.2.2.2)
def cuF (σ : cS) (f : Nat → Option Nat) : cS := cuX σ (σ.2.2.2.2.1, σ.2.2.2.2.2.1, σ.2.2.2.2.2.2.1, σ.2.2.2.2.2.2.2.1, σ.2.2.2.2.2.2.2.2.1, σ.2.2.2.2.2.2.2.2.2.1, f, σ.2.2.2.2.2.2.2.2.2.2.2)
def cuC (σ : cS) (f : Nat → cAr) : cS := cuX σ (σ.2.2.2.2.1, σ.2.2.2.2.2.1, σ.2.2.2.2.2.2.1, σ.2.2.2.2.2.2.2.1, σ.2.2.2.2.2.2.2.2.1, σ.2.2.2.2.2.2.2.2.2.1, σ.2.2.2.2.2.2.2.2.2.2.1, f)
theorem cGI_2 {s k i : Nat} {f : Nat → Int32} : ((cuGI σ s k f).2.2.1 i).2 = (σ.2.2.1 i).2 := by
  unfold cuGI
  by_cases e : i = s
  · subst e; simp only [va_s]
  · simp only [va_o e]
theorem cGI_1 {s k i j : Nat} {f : Nat → Int32} (h : ¬ (i = s ∧ j = k)) : ((cuGI σ s k f).2.2.1 i).1 j = (σ.2.2.1 i).1 j := by
  unfold cuGI
  by_cases e : i = s
  · subst e; simp only [va_s]; exact va_o (fun q => h ⟨rfl, q⟩)
  · simp only [va_o e]
theorem cGI_s {s k : Nat} {f : Nat → Int32} : ((cuGI σ s k f).2.2.1 s).1 k = f := by unfold cuGI; simp only [va_s]
theorem cGD_1 {s k i : Nat} {f : Nat → UInt64} : ((cuGD σ s k f).2.2.1 i).1 = (σ.2.2.1 i).1 := by
  unfold cuGD
  by_cases e : i = s
  · subst e; simp only [va_s]
  · simp only [va_o e]
theorem cGD_3 {s k i : Nat} {f : Nat → UInt64} : ((cuGD σ s k f).2.2.1 i).2.2 = (σ.2.2.1 i).2.2 := by
  unfold cuGD
  by_cases e : i = s
  · subst e; simp only [va_s]
  · simp only [va_o e]
theorem cGD_2 {s k i j : Nat} {f : Nat → UInt64} (h : ¬ (i = s ∧ j = k)) : ((cuGD σ s k f).2.2.1 i).2.1 j = (σ.2.2.1 i).2.1 j := by
  unfold cuGD
  by_cases e : i = s
  · subst e; simp only [va_s]; exact va_o (fun q => h ⟨rfl, q⟩)
  · simp only [va_o e]
theorem cGD_s {s k : Nat} {f : Nat → UInt64} : ((cuGD σ s k f).2.2.1 s).2.1 k = f := by unfold cuGD; simp only [va_s]
theorem cT_1 {s i : Nat} {v : Int32} : ((cuT σ s v).2.2.1 i).1 = (σ.2.2.1 i).1 := by
  unfold cuT
  by_cases e : i = s
  · subst e; simp only [va_s]
  · simp only [va_o e]
theorem cT_2 {s i : Nat} {v : Int32} : ((cuT σ s v).2.2.1 i).2.1 = (σ.2.2.1 i).2.1 := by
  unfold cuT
  by_cases e : i = s
  · subst e; simp only [va_s]
  · simp only [va_o e]
theorem cT_o {s i : Nat} {v : Int32} (h : i ≠ s) : (cuT σ s v).2.2.1 i = σ.2.2.1 i := by unfold cuT; simp only [va_o h]
theorem cT_s {s : Nat} {v : Int32} : ((cuT σ s v).2.2.1 s).2.2 = v := by unfold cuT; simp only [va_s]
theorem cBn_1 {b i : Nat} {v : Int32} : ((cuBn σ b v).2.2.2.2.2.2.2.1 i).1 = (σ.2.2.2.2.2.2.2.1 i).1 := by
  unfold cuBn cuX
  by_cases e : i = b
  · subst e; simp only [va_s]
  · simp only [va_o e]
theorem cBn_o {b i : Nat} {v : Int32} (h : i ≠ b) : (cuBn σ b v).2.2.2.2.2.2.2.1 i = σ.2.2.2.2.2.2.2.1 i := by unfold cuBn cuX; simp only [va_o h]
theorem cBw_2 {b i : Nat} {f : Nat → Int64} : ((cuBw σ b f).2.2.2.2.2.2.2.1 i).2 = (σ.2.2.2.2.2.2.2.1 i).2 := by
  unfold cuBw cuX
  by_cases e : i = b
  · subst e; simp only [va_s]
  · simp only [va_o e]
theorem cBw_o {b i : Nat} {f : Nat → Int64} (h : i ≠ b) : (cuBw σ b f).2.2.2.2.2.2.2.1 i = σ.2.2.2.2.2.2.2.1 i := by unfold cuBw cuX; simp only [va_o h]
theorem cBn_s {b : Nat} {v : Int32} : (cuBn σ b v).2.2.2.2.2.2.2.1 b = ((σ.2.2.2.2.2.2.2.1 b).1, v) := by unfold cuBn cuX; simp only [va_s]
theorem cBw_s {b : Nat} {f : Nat → Int64} : (cuBw σ b f).2.2.2.2.2.2.2.1 b = (f, (σ.2.2.2.2.2.2.2.1 b).2) := by unfold cuBw cuX; simp only [va_s]
theorem csh_o {σ1 σ2 : cS} (h1 : σ1.1 = σ2.1) (h2 : σ1.2.1 = σ2.2.1) : csh x0 σ1 = csh x0 σ2 := by unfold csh; rw [h1, h2]
theorem cwR_0 {σ1 σ2 : cS} {c : Nat × Nat × Nat × Nat × Nat} (hc : c.1 ≠ 0) (h : σ1.2.2 = σ2.2.2) : cwR g x0 σ1 c = cwR g x0 σ2 c := by
  unfold cwR csg
  rw [if_neg hc, if_neg hc, h]
/-- by the sights alone -/
theorem cwR_g {σ1 σ2 : cS} {c : Nat × Nat × Nat × Nat × Nat} (h1 : σ1.1 = σ2.1) (h2 : σ1.2.1 = σ2.2.1) (h4 : σ1.2.2.2 = σ2.2.2.2) (h5 : c.1 = 5 → (σ1.2.2.1 c.2.1).2.2 = (σ2.2.2.1 c.2.1).2.2) (h6 : c.1 = 6 → (σ1.2.2.1 c.2.1).1 c.2.2.1 = (σ2.2.2.1 c.2.1).1 c.2.2.1) (h7 : c.1 = 7 → (σ1.2.2.1 c.2.1).2.1 c.2.2.1 = (σ2.2.2.1 c.2.1).2.1 c.2.2.1) : cwR g x0 σ1 c = cwR g x0 σ2 c := by
  unfold cwR
  rw [csh_o h1 h2, h4]
  by_cases e5 : c.1 = 5
  · have := h5 e5
    unfold csg
    simp only [e5, this]
    rfl
  · by_cases e6 : c.1 = 6
    · simp only [e6, h6 e6]
      rfl
    · by_cases e7 : c.1 = 7
      · simp only [e7, h7 e7]
        rfl
      · simp only [if_neg e5, if_neg e6, if_neg e7]
/-- by the rest alone -/
theorem cwR_x {σ1 σ2 : cS} {c : Nat × Nat × Nat × Nat × Nat} (h1 : σ1.1 = σ2.1) (h2 : σ1.2.1 = σ2.2.1) (h3 : σ1.2.2.1 = σ2.2.2.1) (k1 : c.1 = 1 → σ1.2.2.2.2.1 c.2.1 = σ2.2.2.2.2.1 c.2.1) (k2 : c.1 = 2 → σ1.2.2.2.2.2.1 c.2.1 = σ2.2.2.2.2.2.1 c.2.1) (k3 : c.1 = 3 → σ1.2.2.2.2.2.2.1 c.2.1 = σ2.2.2.2.2.2.2.1 c.2.1) (k8 : c.1 = 8 → (σ1.2.2.2.2.2.2.2.1 c.2.1).2 = (σ2.2.2.2.2.2.2.2.1 c.2.1).2) (k9 : c.1 = 9 → (σ1.2.2.2.2.2.2.2.1 c.2.1).1 = (σ2.2.2.2.2.2.2.2.1 c.2.1).1) (kq : c.1 = 10 → σ1.2.2.2.2.2.2.2.2.1.2 = σ2.2.2.2.2.2.2.2.2.1.2) (kp : c.1 = 11 → σ1.2.2.2.2.2.2.2.2.1.1 = σ2.2.2.2.2.2.2.2.2.1.1) (kr : c.1 = 12 → σ1.2.2.2.2.2.2.2.2.2.1 c.2.1 = σ2.2.2.2.2.2.2.2.2.2.1 c.2.1) (hc : c.1 < 13) : cwR g x0 σ1 c = cwR g x0 σ2 c := by
  unfold cwR csg
  rw [csh_o h1 h2, h3]
  by_cases e1 : c.1 = 1
  · simp only [e1, k1 e1]; rfl
  by_cases e2 : c.1 = 2
  · simp only [e2, k2 e2]; rfl
  by_cases e3 : c.1 = 3
  · simp only [e3, k3 e3]; rfl
  by_cases e8 : c.1 = 8
  · simp only [e8, k8 e8]; rfl
  by_cases e9 : c.1 = 9
  · simp only [e9, k9 e9]; rfl
  by_cases eq : c.1 = 10
  · simp only [eq, kq eq]; rfl
  by_cases ep : c.1 = 11
  · simp only [ep, kp ep]; rfl
  by_cases er : c.1 = 12
  · simp only [er, kr er]; rfl
  have : c.1 = 0 ∨ c.1 = 4 ∨ c.1 = 5 ∨ c.1 = 6 ∨ c.1 = 7 := by omega
  rcases this with e | e | e | e | e <;> (simp only [e]; rfl)
theorem c_up0 {σ' : cS} {e : va_E} (he : .inr (0, csh x0 σ') = e) (h : σ'.2.2 = σ.2.2) : va_up (cput g x0 P σ hp) x0 (some e) = cput g x0 P σ' hp := by
  refine cput_up (q := 0) (c := (0, 0, 0, 0, 0)) rfl (by decide) he (fun y c' h1 e13 h2 => cwR_0 (fun q => h2 ?_) h) (by rw [h]) (by rw [h]) (by rw [h])
  rw [← cwL_p h1]
  unfold cPos
  rw [if_pos q]
theorem c_upI {k : Nat} {v : Int32} (he : (csh x0 σ).set k (.int v) = csh x0 (cuI σ k v)) : va_up (cput g x0 P σ hp) x0 (some (.inr (0, (csh x0 σ).set k (.int v)))) = cput g x0 P (cuI σ k v) hp := c_up0 (by rw [he]) rfl
theorem cput_0 : cput g x0 P σ hp x0 = some (.inr (0, csh x0 σ)) := cput_x (q := 0) (c := (0, 0, 0, 0, 0)) rfl (by decide)
theorem cz_o {K : Nat → Nat → List Value → Prop} : zo (cput g x0 P σ hp) (some x0) [0] K = K x0 0 (csh x0 σ) := by
  unfold zo; simp only [cput_0, List.mem_singleton, true_and]
theorem c_gI {K : Int32 → Prop} (k : Nat) {x : Int32} (hx : (csh x0 σ)[k]? = some (.int x)) : zgI (cput g x0 P σ hp) (some x0) [0] k K = K x := by
  unfold zgI; rw [cz_o, hx]; rfl
theorem c_gR {K : Option Nat → Prop} (k : Nat) {r : Option Nat} (hx : (csh x0 σ)[k]? = some (va_rf r)) : zgR (cput g x0 P σ hp) (some x0) [0] k K = K r := by
  unfold zgR; rw [cz_o, hx]; cases r <;> rfl
theorem c_pI {K : zHp → Prop} (k : Nat) (hk : k < 30) (v : Int32) (he : (csh x0 σ).set k (.int v) = csh x0 (cuI σ k v)) : zpt g (cput g x0 P σ hp) (some x0) [0] k (.int v) K = (zB g ≤ x0 ∧ K (cput g x0 P (cuI σ k v) hp)) := by
  unfold zpt; rw [cz_o, c_upI he]
  simp only [show (csh x0 σ).length = 30 from rfl, hk, true_and]

theorem cg_cells {K : Option Nat → Prop} : zgR (cput g x0 P σ hp) (some x0) [0] 0 K = K (some (x0 + 1)) := c_gR 0 rfl
theorem cg_tables {K : Option Nat → Prop} : zgR (cput g x0 P σ hp) (some x0) [0] 1 K = K (some (x0 + 2)) := c_gR 1 rfl
theorem cg_fault {K : Int32 → Prop} : zgI (cput g x0 P σ hp) (some x0) [0] 2 K = K (σ.1 2) := c_gI 2 rfl
theorem cp_fault {K : zHp → Prop} (v : Int32) : zpt g (cput g x0 P σ hp) (some x0) [0] 2 (.int v) K = (zB g ≤ x0 ∧ K (cput g x0 P (cuI σ 2 v) hp)) := c_pI 2 (by decide) v rfl
theorem cg_blamed {K : Int32 → Prop} : zgI (cput g x0 P σ hp) (some x0) [0] 3 K = K (σ.1 3) := c_gI 3 rfl
theorem cp_blamed {K : zHp → Prop} (v : Int32) : zpt g (cput g x0 P σ hp) (some x0) [0] 3 (.int v) K = (zB g ≤ x0 ∧ K (cput g x0 P (cuI σ 3 v) hp)) := c_pI 3 (by decide) v rfl
theorem cg_teller {K : Int32 → Prop} : zgI (cput g x0 P σ hp) (some x0) [0] 4 K = K (σ.1 4) := c_gI 4 rfl
theorem cp_teller {K : zHp → Prop} (v : Int32) : zpt g (cput g x0 P σ hp) (some x0) [0] 4 (.int v) K = (zB g ≤ x0 ∧ K (cput g x0 P (cuI σ 4 v) hp)) := c_pI 4 (by decide) v rfl
theorem cg_sights {K : Option Nat → Prop} : zgR (cput g x0 P σ hp) (some x0) [0] 5 K = K (some (x0 + 3)) := c_gR 5 rfl
theorem cg_plain {K : Option Nat → Prop} : zgR (cput g x0 P σ hp) (some x0) [0] 6 K = K (some (x0 + cSA 6)) := c_gR 6 rfl
theorem cg_now {K : Option Nat → Prop} : zgR (cput g x0 P σ hp) (some x0) [0] 7 K = K σ.2.1 := c_gR 7 rfl
theorem cp_now {K : zHp → Prop} (r : Option Nat) : zpt g (cput g x0 P σ hp) (some x0) [0] 7 (va_rf r) K = (zB g ≤ x0 ∧ K (cput g x0 P (cuN σ r) hp)) := by
  unfold zpt
  rw [cz_o, c_up0 (σ := σ) (σ' := cuN σ r) (e := .inr (0, (csh x0 σ).set 7 (va_rf r))) rfl rfl]
  simp only [show (csh x0 σ).length = 30 from rfl, Nat.reduceLT, true_and]
theorem cg_atOne {K : Int32 → Prop} : zgI (cput g x0 P σ hp) (some x0) [0] 8 K = K (σ.1 8) := c_gI 8 rfl
theorem cp_atOne {K : zHp → Prop} (v : Int32) : zpt g (cput g x0 P σ hp) (some x0) [0] 8 (.int v) K = (zB g ≤ x0 ∧ K (cput g x0 P (cuI σ 8 v) hp)) := c_pI 8 (by decide) v rfl
theorem cg_atOther {K : Int32 → Prop} : zgI (cput g x0 P σ hp) (some x0) [0] 9 K = K (σ.1 9) := c_gI 9 rfl
theorem cp_atOther {K : zHp → Prop} (v : Int32) : zpt g (cput g x0 P σ hp) (some x0) [0] 9 (.int v) K = (zB g ≤ x0 ∧ K (cput g x0 P (cuI σ 9 v) hp)) := c_pI 9 (by decide) v rfl
theorem cg_told {K : Int32 → Prop} : zgI (cput g x0 P σ hp) (some x0) [0] 10 K = K (σ.1 10) := c_gI 10 rfl
theorem cp_told {K : zHp → Prop} (v : Int32) : zpt g (cput g x0 P σ hp) (some x0) [0] 10 (.int v) K = (zB g ≤ x0 ∧ K (cput g x0 P (cuI σ 10 v) hp)) := c_pI 10 (by decide) v rfl
theorem cg_reached {K : Option Nat → Prop} : zgR (cput g x0 P σ hp) (some x0) [0] 11 K = K (some (x0 + 16)) := c_gR 11 rfl
theorem cg_reads {K : Option Nat → Prop} : zgR (cput g x0 P σ hp) (some x0) [0] 12 K = K (some (x0 + 17)) := c_gR 12 rfl
theorem cg_burdens {K : Option Nat → Prop} : zgR (cput g x0 P σ hp) (some x0) [0] 13 K = K (some (x0 + 18)) := c_gR 13 rfl
theorem cg_loads {K : Option Nat → Prop} : zgR (cput g x0 P σ hp) (some x0) [0] 14 K = K (some (x0 + 19)) := c_gR 14 rfl
theorem cg_tableBurdens {K : Option Nat → Prop} : zgR (cput g x0 P σ hp) (some x0) [0] 15 K = K (some (x0 + 20)) := c_gR 15 rfl
theorem cg_through {K : Option Nat → Prop} : zgR (cput g x0 P σ hp) (some x0) [0] 16 K = K (some (x0 + cBA 48)) := c_gR 16 rfl
theorem cg_waits {K : Option Nat → Prop} : zgR (cput g x0 P σ hp) (some x0) [0] 17 K = K (some (x0 + 23)) := c_gR 17 rfl
theorem cg_ready {K : Option Nat → Prop} : zgR (cput g x0 P σ hp) (some x0) [0] 18 K = K (some (x0 + 24)) := c_gR 18 rfl
theorem cg_tape {K : Option Nat → Prop} : zgR (cput g x0 P σ hp) (some x0) [0] 19 K = K (some (x0 + 26)) := c_gR 19 rfl
theorem cg_taped {K : Int32 → Prop} : zgI (cput g x0 P σ hp) (some x0) [0] 20 K = K (σ.1 20) := c_gI 20 rfl
theorem cp_taped {K : zHp → Prop} (v : Int32) : zpt g (cput g x0 P σ hp) (some x0) [0] 20 (.int v) K = (zB g ≤ x0 ∧ K (cput g x0 P (cuI σ 20 v) hp)) := c_pI 20 (by decide) v rfl
theorem cg_plainNumbers {K : Option Nat → Prop} : zgR (cput g x0 P σ hp) (some x0) [0] 21 K = K (some (x0 + 27)) := c_gR 21 rfl
theorem cg_plainFirsts {K : Option Nat → Prop} : zgR (cput g x0 P σ hp) (some x0) [0] 22 K = K (some (x0 + 28)) := c_gR 22 rfl
theorem cg_hads {K : Option Nat → Prop} : zgR (cput g x0 P σ hp) (some x0) [0] 23 K = K (some (x0 + 29)) := c_gR 23 rfl
theorem cg_kindsKept {K : Option Nat → Prop} : zgR (cput g x0 P σ hp) (some x0) [0] 24 K = K (some (x0 + 30)) := c_gR 24 rfl
theorem cg_ownKept {K : Option Nat → Prop} : zgR (cput g x0 P σ hp) (some x0) [0] 25 K = K (some (x0 + 31)) := c_gR 25 rfl
theorem cg_formulasKept {K : Option Nat → Prop} : zgR (cput g x0 P σ hp) (some x0) [0] 26 K = K (some (x0 + 32)) := c_gR 26 rfl
theorem cg_tablesKept {K : Option Nat → Prop} : zgR (cput g x0 P σ hp) (some x0) [0] 27 K = K (some (x0 + 33)) := c_gR 27 rfl
theorem cg_isKept {K : Int32 → Prop} : zgI (cput g x0 P σ hp) (some x0) [0] 28 K = K (σ.1 28) := c_gI 28 rfl
theorem cp_isKept {K : zHp → Prop} (v : Int32) : zpt g (cput g x0 P σ hp) (some x0) [0] 28 (.int v) K = (zB g ≤ x0 ∧ K (cput g x0 P (cuI σ 28 v) hp)) := c_pI 28 (by decide) v rfl
theorem cg_rows {K : Option Nat → Prop} : zgR (cput g x0 P σ hp) (some x0) [0] 29 K = K (some (x0 + 34)) := c_gR 29 rfl
theorem c_aI {K : Nat → Nat → (Nat → Int32) → Prop} {q t n : Nat} {f : Nat → Int32} {a : Nat} (h : cput g x0 P σ hp a = some (.inl (g.2.1 t, n, .inl f))) : zaI (g.2.1 t) (cput g x0 P σ hp) (some a) K = K a n f := by
  unfold zaI; simp only [h, true_and]
theorem c_aD {K : Nat → Nat → (Nat → UInt64) → Prop} {n : Nat} {f : Nat → UInt64} {a : Nat} (h : cput g x0 P σ hp a = some (.inl (g.2.1 1, n, .inr (.inr (.inr (.inl f)))))) : zaD (g.2.1 1) (cput g x0 P σ hp) (some a) K = K a n f := by
  unfold zaD; simp only [h, true_and]
theorem c_aJ {K : Nat → Nat → (Nat → Int64) → Prop} {n : Nat} {f : Nat → Int64} {a : Nat} (h : cput g x0 P σ hp a = some (.inl (g.2.1 4, n, .inr (.inl f)))) : zaJ (g.2.1 4) (cput g x0 P σ hp) (some a) K = K a n f := by
  unfold zaJ; simp only [h, true_and]
theorem c_aR {K : Nat → Nat → (Nat → Option Nat) → Prop} {t n : Nat} {f : Nat → Option Nat} {a : Nat} (h : cput g x0 P σ hp a = some (.inl (g.2.1 t, n, .inr (.inr (.inr (.inr f)))))) : zaR (g.2.1 t) (cput g x0 P σ hp) (some a) K = K a n f := by
  unfold zaR; simp only [h, true_and]
theorem c_ln {K : Int32 → Prop} {t : Nat} {x : vp_A} {a : Nat} (h : cput g x0 P σ hp a = some (.inl (g.2.1 t, x))) : zln (g.2.1 t) (cput g x0 P σ hp) (some a) K = K (Int32.ofNat x.1) := by
  unfold zln; simp only [h, true_and]
theorem c_ne {y q : Nat} {c c' : Nat × Nat × Nat × Nat × Nat} (h1 : cwL[y]? = some c') (h : cwL[q]? = some c) (hne : y ≠ q) : cPos c' ≠ cPos c := by rw [cwL_p h1, cwL_p h]; exact hne
theorem c_upA {q k t n : Nat} (h : cwL[q]? = some (1, k, 0, t, n)) (f : Nat → Int32) : va_up (cput g x0 P σ hp) (x0 + q) (some (.inl (g.2.1 t, n, .inl f))) = cput g x0 P (cuA σ k f) hp := by
  refine cput_up h (show (1 : Nat) ≠ 13 by decide) (by show (.inl (g.2.1 t, n, .inl (va_up _ k f k)) : va_E) = _; rw [va_s]) (fun y c' h1 e13 h2 => ?_) rfl rfl rfl
  refine cwR_x rfl rfl rfl (fun e => ?_) (fun _ => rfl) (fun _ => rfl) (fun _ => rfl) (fun _ => rfl) (fun _ => rfl) (fun _ => rfl) (fun _ => rfl) e13
  refine va_o (fun q => c_ne h1 h h2 ?_)
  unfold cPos
  simp only [e, q]
  rfl
theorem c_upD {q k n : Nat} (h : cwL[q]? = some (2, k, 0, 1, n)) (f : Nat → UInt64) : va_up (cput g x0 P σ hp) (x0 + q) (some (.inl (g.2.1 1, n, .inr (.inr (.inr (.inl f)))))) = cput g x0 P (cuD σ k f) hp := by
  refine cput_up h (show (2 : Nat) ≠ 13 by decide) (by show (.inl (g.2.1 1, n, .inr (.inr (.inr (.inl (va_up _ k f k))))) : va_E) = _; rw [va_s]) (fun y c' h1 e13 h2 => ?_) rfl rfl rfl
  refine cwR_x rfl rfl rfl (fun _ => rfl) (fun e => ?_) (fun _ => rfl) (fun _ => rfl) (fun _ => rfl) (fun _ => rfl) (fun _ => rfl) (fun _ => rfl) e13
  refine va_o (fun q => c_ne h1 h h2 ?_)
  unfold cPos
  simp only [e, q]
  rfl
theorem c_upR {q k t n : Nat} (h : cwL[q]? = some (3, k, 0, t, n)) (f : Nat → Option Nat) : va_up (cput g x0 P σ hp) (x0 + q) (some (.inl (g.2.1 t, n, .inr (.inr (.inr (.inr f)))))) = cput g x0 P (cuR σ k f) hp := by
  refine cput_up h (show (3 : Nat) ≠ 13 by decide) (by show (.inl (g.2.1 t, n, .inr (.inr (.inr (.inr (va_up _ k f k))))) : va_E) = _; rw [va_s]) (fun y c' h1 e13 h2 => ?_) rfl rfl rfl
  refine cwR_x rfl rfl rfl (fun _ => rfl) (fun _ => rfl) (fun e => ?_) (fun _ => rfl) (fun _ => rfl) (fun _ => rfl) (fun _ => rfl) (fun _ => rfl) e13
  refine va_o (fun q => c_ne h1 h h2 ?_)
  unfold cPos
  simp only [e, q]
  rfl
theorem ca_burdens {K : Nat → Nat → (Nat → Int32) → Prop} : zaI (g.2.1 0) (cput g x0 P σ hp) (some (x0 + 18)) K = K (x0 + 18) 24 (σ.2.2.2.2.1 13) := c_aI (q := 0) (cput_x (q := 18) (c := (1, 13, 0, 0, 24)) rfl (by decide))
theorem cu_burdens (f : Nat → Int32) : va_up (cput g x0 P σ hp) (x0 + 18) (some (.inl (g.2.1 0, 24, .inl f))) = cput g x0 P (cuA σ 13 f) hp := c_upA (q := 18) rfl f
theorem ca_loads {K : Nat → Nat → (Nat → Int32) → Prop} : zaI (g.2.1 0) (cput g x0 P σ hp) (some (x0 + 19)) K = K (x0 + 19) 24 (σ.2.2.2.2.1 14) := c_aI (q := 0) (cput_x (q := 19) (c := (1, 14, 0, 0, 24)) rfl (by decide))
theorem cu_loads (f : Nat → Int32) : va_up (cput g x0 P σ hp) (x0 + 19) (some (.inl (g.2.1 0, 24, .inl f))) = cput g x0 P (cuA σ 14 f) hp := c_upA (q := 19) rfl f
theorem ca_tableBurdens {K : Nat → Nat → (Nat → Int32) → Prop} : zaI (g.2.1 0) (cput g x0 P σ hp) (some (x0 + 20)) K = K (x0 + 20) 6 (σ.2.2.2.2.1 15) := c_aI (q := 0) (cput_x (q := 20) (c := (1, 15, 0, 0, 6)) rfl (by decide))
theorem cu_tableBurdens (f : Nat → Int32) : va_up (cput g x0 P σ hp) (x0 + 20) (some (.inl (g.2.1 0, 6, .inl f))) = cput g x0 P (cuA σ 15 f) hp := c_upA (q := 20) rfl f
theorem ca_waits {K : Nat → Nat → (Nat → Int32) → Prop} : zaI (g.2.1 0) (cput g x0 P σ hp) (some (x0 + 23)) K = K (x0 + 23) 30 (σ.2.2.2.2.1 17) := c_aI (q := 0) (cput_x (q := 23) (c := (1, 17, 0, 0, 30)) rfl (by decide))
theorem cu_waits (f : Nat → Int32) : va_up (cput g x0 P σ hp) (x0 + 23) (some (.inl (g.2.1 0, 30, .inl f))) = cput g x0 P (cuA σ 17 f) hp := c_upA (q := 23) rfl f
theorem ca_tape {K : Nat → Nat → (Nat → Int32) → Prop} : zaI (g.2.1 2) (cput g x0 P σ hp) (some (x0 + 26)) K = K (x0 + 26) 96 (σ.2.2.2.2.1 19) := c_aI (q := 0) (cput_x (q := 26) (c := (1, 19, 0, 2, 96)) rfl (by decide))
theorem cu_tape (f : Nat → Int32) : va_up (cput g x0 P σ hp) (x0 + 26) (some (.inl (g.2.1 2, 96, .inl f))) = cput g x0 P (cuA σ 19 f) hp := c_upA (q := 26) rfl f
theorem ca_plainFirsts {K : Nat → Nat → (Nat → Int32) → Prop} : zaI (g.2.1 2) (cput g x0 P σ hp) (some (x0 + 28)) K = K (x0 + 28) 8 (σ.2.2.2.2.1 22) := c_aI (q := 0) (cput_x (q := 28) (c := (1, 22, 0, 2, 8)) rfl (by decide))
theorem cu_plainFirsts (f : Nat → Int32) : va_up (cput g x0 P σ hp) (x0 + 28) (some (.inl (g.2.1 2, 8, .inl f))) = cput g x0 P (cuA σ 22 f) hp := c_upA (q := 28) rfl f
theorem ca_kindsKept {K : Nat → Nat → (Nat → Int32) → Prop} : zaI (g.2.1 0) (cput g x0 P σ hp) (some (x0 + 30)) K = K (x0 + 30) 24 (σ.2.2.2.2.1 24) := c_aI (q := 0) (cput_x (q := 30) (c := (1, 24, 0, 0, 24)) rfl (by decide))
theorem cu_kindsKept (f : Nat → Int32) : va_up (cput g x0 P σ hp) (x0 + 30) (some (.inl (g.2.1 0, 24, .inl f))) = cput g x0 P (cuA σ 24 f) hp := c_upA (q := 30) rfl f
theorem ca_plainNumbers {K : Nat → Nat → (Nat → UInt64) → Prop} : zaD (g.2.1 1) (cput g x0 P σ hp) (some (x0 + 27)) K = K (x0 + 27) 8 (σ.2.2.2.2.2.1 21) := c_aD (cput_x (q := 27) (c := (2, 21, 0, 1, 8)) rfl (by decide))
theorem cu_plainNumbers (f : Nat → UInt64) : va_up (cput g x0 P σ hp) (x0 + 27) (some (.inl (g.2.1 1, 8, .inr (.inr (.inr (.inl f)))))) = cput g x0 P (cuD σ 21 f) hp := c_upD (q := 27) rfl f
theorem ca_hads {K : Nat → Nat → (Nat → UInt64) → Prop} : zaD (g.2.1 1) (cput g x0 P σ hp) (some (x0 + 29)) K = K (x0 + 29) 24 (σ.2.2.2.2.2.1 23) := c_aD (cput_x (q := 29) (c := (2, 23, 0, 1, 24)) rfl (by decide))
theorem cu_hads (f : Nat → UInt64) : va_up (cput g x0 P σ hp) (x0 + 29) (some (.inl (g.2.1 1, 24, .inr (.inr (.inr (.inl f)))))) = cput g x0 P (cuD σ 23 f) hp := c_upD (q := 29) rfl f
theorem ca_ownKept {K : Nat → Nat → (Nat → UInt64) → Prop} : zaD (g.2.1 1) (cput g x0 P σ hp) (some (x0 + 31)) K = K (x0 + 31) 24 (σ.2.2.2.2.2.1 25) := c_aD (cput_x (q := 31) (c := (2, 25, 0, 1, 24)) rfl (by decide))
theorem cu_ownKept (f : Nat → UInt64) : va_up (cput g x0 P σ hp) (x0 + 31) (some (.inl (g.2.1 1, 24, .inr (.inr (.inr (.inl f)))))) = cput g x0 P (cuD σ 25 f) hp := c_upD (q := 31) rfl f
theorem ca_cells {K : Nat → Nat → (Nat → Option Nat) → Prop} : zaR (g.2.1 7) (cput g x0 P σ hp) (some (x0 + 1)) K = K (x0 + 1) 24 (σ.2.2.2.2.2.2.1 0) := c_aR (cput_x (q := 1) (c := (3, 0, 0, 7, 24)) rfl (by decide))
theorem cl_cells {K : Int32 → Prop} : zln (g.2.1 7) (cput g x0 P σ hp) (some (x0 + 1)) K = K (Int32.ofNat 24) := c_ln (cput_x (q := 1) (c := (3, 0, 0, 7, 24)) rfl (by decide))
theorem cu_cells (f : Nat → Option Nat) : va_up (cput g x0 P σ hp) (x0 + 1) (some (.inl (g.2.1 7, 24, .inr (.inr (.inr (.inr f)))))) = cput g x0 P (cuR σ 0 f) hp := c_upR (q := 1) rfl f
theorem ca_tables {K : Nat → Nat → (Nat → Option Nat) → Prop} : zaR (g.2.1 8) (cput g x0 P σ hp) (some (x0 + 2)) K = K (x0 + 2) 6 (σ.2.2.2.2.2.2.1 1) := c_aR (cput_x (q := 2) (c := (3, 1, 0, 8, 6)) rfl (by decide))
theorem cl_tables {K : Int32 → Prop} : zln (g.2.1 8) (cput g x0 P σ hp) (some (x0 + 2)) K = K (Int32.ofNat 6) := c_ln (cput_x (q := 2) (c := (3, 1, 0, 8, 6)) rfl (by decide))
theorem cu_tables (f : Nat → Option Nat) : va_up (cput g x0 P σ hp) (x0 + 2) (some (.inl (g.2.1 8, 6, .inr (.inr (.inr (.inr f)))))) = cput g x0 P (cuR σ 1 f) hp := c_upR (q := 2) rfl f
theorem ca_formulasKept {K : Nat → Nat → (Nat → Option Nat) → Prop} : zaR (g.2.1 11) (cput g x0 P σ hp) (some (x0 + 32)) K = K (x0 + 32) 24 (σ.2.2.2.2.2.2.1 26) := c_aR (cput_x (q := 32) (c := (3, 26, 0, 11, 24)) rfl (by decide))
theorem cl_formulasKept {K : Int32 → Prop} : zln (g.2.1 11) (cput g x0 P σ hp) (some (x0 + 32)) K = K (Int32.ofNat 24) := c_ln (cput_x (q := 32) (c := (3, 26, 0, 11, 24)) rfl (by decide))
theorem cu_formulasKept (f : Nat → Option Nat) : va_up (cput g x0 P σ hp) (x0 + 32) (some (.inl (g.2.1 11, 24, .inr (.inr (.inr (.inr f)))))) = cput g x0 P (cuR σ 26 f) hp := c_upR (q := 32) rfl f
theorem ca_tablesKept {K : Nat → Nat → (Nat → Option Nat) → Prop} : zaR (g.2.1 8) (cput g x0 P σ hp) (some (x0 + 33)) K = K (x0 + 33) 6 (σ.2.2.2.2.2.2.1 27) := c_aR (cput_x (q := 33) (c := (3, 27, 0, 8, 6)) rfl (by decide))
theorem cl_tablesKept {K : Int32 → Prop} : zln (g.2.1 8) (cput g x0 P σ hp) (some (x0 + 33)) K = K (Int32.ofNat 6) := c_ln (cput_x (q := 33) (c := (3, 27, 0, 8, 6)) rfl (by decide))
theorem cu_tablesKept (f : Nat → Option Nat) : va_up (cput g x0 P σ hp) (x0 + 33) (some (.inl (g.2.1 8, 6, .inr (.inr (.inr (.inr f)))))) = cput g x0 P (cuR σ 27 f) hp := c_upR (q := 33) rfl f
theorem ca_sights {K : Nat → Nat → (Nat → Option Nat) → Prop} : zaR (g.2.1 9) (cput g x0 P σ hp) (some (x0 + 3)) K = K (x0 + 3) 6 (fun j => some (x0 + cSA j)) := c_aR (cput_x (q := 3) (c := (4, 5, 0, 9, 6)) rfl (by decide))
theorem ca_reached {K : Nat → Nat → (Nat → Option Nat) → Prop} : zaR (g.2.1 10) (cput g x0 P σ hp) (some (x0 + 16)) K = K (x0 + 16) 24 (fun j => some (x0 + cBA j)) := c_aR (cput_x (q := 16) (c := (4, 11, 0, 10, 24)) rfl (by decide))
theorem ca_reads {K : Nat → Nat → (Nat → Option Nat) → Prop} : zaR (g.2.1 10) (cput g x0 P σ hp) (some (x0 + 17)) K = K (x0 + 17) 24 (fun j => some (x0 + cBA (24 + j))) := c_aR (cput_x (q := 17) (c := (4, 12, 0, 10, 24)) rfl (by decide))
theorem ca_rows {K : Nat → Nat → (Nat → Option Nat) → Prop} : zaR (g.2.1 12) (cput g x0 P σ hp) (some (x0 + 34)) K = K (x0 + 34) 4 (fun j => some (x0 + (227 + j))) := c_aR (cput_x (q := 34) (c := (4, 29, 0, 12, 4)) rfl (by decide))
/-! sights -/
theorem cL_of {q : Nat} {a b c e f : Nat} (h : q < 231 ∧ (cwL.getD q (0, 0, 0, 0, 0)).1 = a ∧ (cwL.getD q (0, 0, 0, 0, 0)).2.1 = b ∧ (cwL.getD q (0, 0, 0, 0, 0)).2.2.1 = c ∧ (cwL.getD q (0, 0, 0, 0, 0)).2.2.2.1 = e ∧ (cwL.getD q (0, 0, 0, 0, 0)).2.2.2.2 = f) : cwL[q]? = some (a, b, c, e, f) := by
  obtain ⟨hq, h1, h2, h3, h4, h5⟩ := h
  have hl : q < cwL.length := by rw [cwL_len]; exact hq
  rw [List.getD_eq_getElem?_getD, List.getElem?_eq_getElem hl] at h1 h2 h3 h4 h5
  rw [List.getElem?_eq_getElem hl]
  subst h1; subst h2; subst h3; subst h4; subst h5
  rfl
theorem cS_0_d : ∀ s, s < 7 → (cSA s < 231 ∧ (cwL.getD (cSA s) (0, 0, 0, 0, 0)).1 = 5 ∧ (cwL.getD (cSA s) (0, 0, 0, 0, 0)).2.1 = s ∧ (cwL.getD (cSA s) (0, 0, 0, 0, 0)).2.2.1 = 0 ∧ (cwL.getD (cSA s) (0, 0, 0, 0, 0)).2.2.2.1 = 0 ∧ (cwL.getD (cSA s) (0, 0, 0, 0, 0)).2.2.2.2 = 0) := by decide +kernel
theorem cS_0 : ∀ s, s < 7 → cwL[cSA s]? = some (5, s, 0, 0, 0) := fun s h => cL_of (cS_0_d s h)
theorem cput_s {s : Nat} (hs : s < 7) : cput g x0 P σ hp (x0 + cSA s) = some (.inr (1, csg x0 σ s)) := cput_x (cS_0 s hs) (show (5 : Nat) ≠ 13 by decide)
theorem cs_o {s : Nat} (hs : s < 7) {K : Nat → Nat → List Value → Prop} : zo (cput g x0 P σ hp) (some (x0 + cSA s)) [1] K = K (x0 + cSA s) 1 (csg x0 σ s) := by
  unfold zo; simp only [cput_s hs, List.mem_singleton, true_and]
theorem cs_width {s : Nat} (hs : s < 7) {K : Int32 → Prop} : zgI (cput g x0 P σ hp) (some (x0 + cSA s)) [1] 0 K = K (nI (cWd s)) := by unfold zgI; rw [cs_o hs]; rfl
theorem cs_stamp {s : Nat} (hs : s < 7) {K : Int32 → Prop} : zgI (cput g x0 P σ hp) (some (x0 + cSA s)) [1] 12 K = K (σ.2.2.1 s).2.2 := by unfold zgI; rw [cs_o hs]; rfl
theorem cs_pstamp {s : Nat} (hs : s < 7) {K : zHp → Prop} (v : Int32) : zpt g (cput g x0 P σ hp) (some (x0 + cSA s)) [1] 12 (.int v) K = (zB g ≤ x0 + cSA s ∧ K (cput g x0 P (cuT σ s v) hp)) := by
  unfold zpt
  rw [cs_o hs, cput_up (σ := σ) (σ' := cuT σ s v) (cS_0 s hs) (show (5 : Nat) ≠ 13 by decide) ?_ ?_ rfl rfl rfl]
  · simp only [show (csg x0 σ s).length = 13 from rfl, Nat.reduceLT, true_and]
  · show (.inr (1, csg x0 (cuT σ s v) s) : va_E) = _
    unfold csg
    rw [cT_s]
    rfl
  · intro y c' h1 e13 h2
    refine cwR_g rfl rfl rfl (fun e => ?_) (fun _ => by rw [cT_1]) (fun _ => by rw [cT_2])
    rw [cT_o]
    intro q
    refine c_ne h1 (cS_0 s hs) h2 ?_
    unfold cPos
    simp only [e, q]
    rfl
theorem c_upGI {q s k t n : Nat} (h : cwL[q]? = some (6, s, k, t, n)) (f : Nat → Int32) : va_up (cput g x0 P σ hp) (x0 + q) (some (.inl (g.2.1 t, n, .inl f))) = cput g x0 P (cuGI σ s k f) hp := by
  refine cput_up h (show (6 : Nat) ≠ 13 by decide) (by show (.inl (g.2.1 t, n, .inl (((cuGI σ s k f).2.2.1 s).1 k)) : va_E) = _; rw [cGI_s]) (fun y c' h1 e13 h2 => ?_) rfl rfl rfl
  refine cwR_g rfl rfl rfl (fun _ => by rw [cGI_2]) (fun e => cGI_1 ?_) (fun _ => by rw [cGI_2])
  rintro ⟨q1, q2⟩
  refine c_ne h1 h h2 ?_
  unfold cPos
  simp only [e, q1, q2]
theorem c_upGD {q s k n : Nat} (h : cwL[q]? = some (7, s, k, 1, n)) (f : Nat → UInt64) : va_up (cput g x0 P σ hp) (x0 + q) (some (.inl (g.2.1 1, n, .inr (.inr (.inr (.inl f)))))) = cput g x0 P (cuGD σ s k f) hp := by
  refine cput_up h (show (7 : Nat) ≠ 13 by decide) (by show (.inl (g.2.1 1, n, .inr (.inr (.inr (.inl (((cuGD σ s k f).2.2.1 s).2.1 k))))) : va_E) = _; rw [cGD_s]) (fun y c' h1 e13 h2 => ?_) rfl rfl rfl
  refine cwR_g rfl rfl rfl (fun _ => by rw [cGD_3]) (fun _ => by rw [cGD_1]) (fun e => cGD_2 ?_)
  rintro ⟨q1, q2⟩
  refine c_ne h1 h h2 ?_
  unfold cPos
  simp only [e, q1, q2]
theorem cs_values {s : Nat} (hs : s < 7) {K : Option Nat → Prop} : zgR (cput g x0 P σ hp) (some (x0 + cSA s)) [1] 1 K = K (some (x0 + (cSA s + 5))) := by unfold zgR; rw [cs_o hs]; rfl
theorem cSl_values_d : ∀ s, s < 7 → (cSA s + 5 < 231 ∧ (cwL.getD (cSA s + 5) (0, 0, 0, 0, 0)).1 = 7 ∧ (cwL.getD (cSA s + 5) (0, 0, 0, 0, 0)).2.1 = s ∧ (cwL.getD (cSA s + 5) (0, 0, 0, 0, 0)).2.2.1 = 1 ∧ (cwL.getD (cSA s + 5) (0, 0, 0, 0, 0)).2.2.2.1 = 1 ∧ (cwL.getD (cSA s + 5) (0, 0, 0, 0, 0)).2.2.2.2 = 24 * cWd s) := by decide +kernel
theorem cSl_values : ∀ s, s < 7 → cwL[cSA s + 5]? = some (7, s, 1, 1, 24 * cWd s) := fun s h => cL_of (cSl_values_d s h)
theorem csa_values {s : Nat} (hs : s < 7) {K : Nat → Nat → (Nat → UInt64) → Prop} : zaD (g.2.1 1) (cput g x0 P σ hp) (some (x0 + (cSA s + 5))) K = K (x0 + (cSA s + 5)) (24 * cWd s) ((σ.2.2.1 s).2.1 1) := c_aD (cput_x (cSl_values s hs) (show (7 : Nat) ≠ 13 by decide))
theorem csu_values {s : Nat} (hs : s < 7) (f : Nat → UInt64) : va_up (cput g x0 P σ hp) (x0 + (cSA s + 5)) (some (.inl (g.2.1 1, 24 * cWd s, .inr (.inr (.inr (.inl f)))))) = cput g x0 P (cuGD σ s 1 f) hp := c_upGD (cSl_values s hs) f
theorem cs_results {s : Nat} (hs : s < 7) {K : Option Nat → Prop} : zgR (cput g x0 P σ hp) (some (x0 + cSA s)) [1] 2 K = K (some (x0 + (cSA s + 9))) := by unfold zgR; rw [cs_o hs]; rfl
theorem cSl_results_d : ∀ s, s < 7 → (cSA s + 9 < 231 ∧ (cwL.getD (cSA s + 9) (0, 0, 0, 0, 0)).1 = 7 ∧ (cwL.getD (cSA s + 9) (0, 0, 0, 0, 0)).2.1 = s ∧ (cwL.getD (cSA s + 9) (0, 0, 0, 0, 0)).2.2.1 = 2 ∧ (cwL.getD (cSA s + 9) (0, 0, 0, 0, 0)).2.2.2.1 = 1 ∧ (cwL.getD (cSA s + 9) (0, 0, 0, 0, 0)).2.2.2.2 = cWd s) := by decide +kernel
theorem cSl_results : ∀ s, s < 7 → cwL[cSA s + 9]? = some (7, s, 2, 1, cWd s) := fun s h => cL_of (cSl_results_d s h)
theorem csa_results {s : Nat} (hs : s < 7) {K : Nat → Nat → (Nat → UInt64) → Prop} : zaD (g.2.1 1) (cput g x0 P σ hp) (some (x0 + (cSA s + 9))) K = K (x0 + (cSA s + 9)) (cWd s) ((σ.2.2.1 s).2.1 2) := c_aD (cput_x (cSl_results s hs) (show (7 : Nat) ≠ 13 by decide))
theorem csu_results {s : Nat} (hs : s < 7) (f : Nat → UInt64) : va_up (cput g x0 P σ hp) (x0 + (cSA s + 9)) (some (.inl (g.2.1 1, cWd s, .inr (.inr (.inr (.inl f)))))) = cput g x0 P (cuGD σ s 2 f) hp := c_upGD (cSl_results s hs) f
theorem cs_stamps {s : Nat} (hs : s < 7) {K : Option Nat → Prop} : zgR (cput g x0 P σ hp) (some (x0 + cSA s)) [1] 3 K = K (some (x0 + (cSA s + 6))) := by unfold zgR; rw [cs_o hs]; rfl
theorem cSl_stamps_d : ∀ s, s < 7 → (cSA s + 6 < 231 ∧ (cwL.getD (cSA s + 6) (0, 0, 0, 0, 0)).1 = 6 ∧ (cwL.getD (cSA s + 6) (0, 0, 0, 0, 0)).2.1 = s ∧ (cwL.getD (cSA s + 6) (0, 0, 0, 0, 0)).2.2.1 = 3 ∧ (cwL.getD (cSA s + 6) (0, 0, 0, 0, 0)).2.2.2.1 = 0 ∧ (cwL.getD (cSA s + 6) (0, 0, 0, 0, 0)).2.2.2.2 = 24 * cWd s) := by decide +kernel
theorem cSl_stamps : ∀ s, s < 7 → cwL[cSA s + 6]? = some (6, s, 3, 0, 24 * cWd s) := fun s h => cL_of (cSl_stamps_d s h)
theorem csa_stamps {s : Nat} (hs : s < 7) {K : Nat → Nat → (Nat → Int32) → Prop} : zaI (g.2.1 0) (cput g x0 P σ hp) (some (x0 + (cSA s + 6))) K = K (x0 + (cSA s + 6)) (24 * cWd s) ((σ.2.2.1 s).1 3) := c_aI (q := 0) (cput_x (cSl_stamps s hs) (show (6 : Nat) ≠ 13 by decide))
theorem csu_stamps {s : Nat} (hs : s < 7) (f : Nat → Int32) : va_up (cput g x0 P σ hp) (x0 + (cSA s + 6)) (some (.inl (g.2.1 0, 24 * cWd s, .inl f))) = cput g x0 P (cuGI σ s 3 f) hp := c_upGI (cSl_stamps s hs) f
theorem cs_faults {s : Nat} (hs : s < 7) {K : Option Nat → Prop} : zgR (cput g x0 P σ hp) (some (x0 + cSA s)) [1] 4 K = K (some (x0 + (cSA s + 7))) := by unfold zgR; rw [cs_o hs]; rfl
theorem cSl_faults_d : ∀ s, s < 7 → (cSA s + 7 < 231 ∧ (cwL.getD (cSA s + 7) (0, 0, 0, 0, 0)).1 = 6 ∧ (cwL.getD (cSA s + 7) (0, 0, 0, 0, 0)).2.1 = s ∧ (cwL.getD (cSA s + 7) (0, 0, 0, 0, 0)).2.2.1 = 4 ∧ (cwL.getD (cSA s + 7) (0, 0, 0, 0, 0)).2.2.2.1 = 2 ∧ (cwL.getD (cSA s + 7) (0, 0, 0, 0, 0)).2.2.2.2 = 24 * cWd s) := by decide +kernel
theorem cSl_faults : ∀ s, s < 7 → cwL[cSA s + 7]? = some (6, s, 4, 2, 24 * cWd s) := fun s h => cL_of (cSl_faults_d s h)
theorem csa_faults {s : Nat} (hs : s < 7) {K : Nat → Nat → (Nat → Int32) → Prop} : zaI (g.2.1 2) (cput g x0 P σ hp) (some (x0 + (cSA s + 7))) K = K (x0 + (cSA s + 7)) (24 * cWd s) ((σ.2.2.1 s).1 4) := c_aI (q := 0) (cput_x (cSl_faults s hs) (show (6 : Nat) ≠ 13 by decide))
theorem csu_faults {s : Nat} (hs : s < 7) (f : Nat → Int32) : va_up (cput g x0 P σ hp) (x0 + (cSA s + 7)) (some (.inl (g.2.1 2, 24 * cWd s, .inl f))) = cput g x0 P (cuGI σ s 4 f) hp := c_upGI (cSl_faults s hs) f
theorem cs_blames {s : Nat} (hs : s < 7) {K : Option Nat → Prop} : zgR (cput g x0 P σ hp) (some (x0 + cSA s)) [1] 5 K = K (some (x0 + (cSA s + 8))) := by unfold zgR; rw [cs_o hs]; rfl
theorem cSl_blames_d : ∀ s, s < 7 → (cSA s + 8 < 231 ∧ (cwL.getD (cSA s + 8) (0, 0, 0, 0, 0)).1 = 6 ∧ (cwL.getD (cSA s + 8) (0, 0, 0, 0, 0)).2.1 = s ∧ (cwL.getD (cSA s + 8) (0, 0, 0, 0, 0)).2.2.1 = 5 ∧ (cwL.getD (cSA s + 8) (0, 0, 0, 0, 0)).2.2.2.1 = 2 ∧ (cwL.getD (cSA s + 8) (0, 0, 0, 0, 0)).2.2.2.2 = 24 * cWd s) := by decide +kernel
theorem cSl_blames : ∀ s, s < 7 → cwL[cSA s + 8]? = some (6, s, 5, 2, 24 * cWd s) := fun s h => cL_of (cSl_blames_d s h)
theorem csa_blames {s : Nat} (hs : s < 7) {K : Nat → Nat → (Nat → Int32) → Prop} : zaI (g.2.1 2) (cput g x0 P σ hp) (some (x0 + (cSA s + 8))) K = K (x0 + (cSA s + 8)) (24 * cWd s) ((σ.2.2.1 s).1 5) := c_aI (q := 0) (cput_x (cSl_blames s hs) (show (6 : Nat) ≠ 13 by decide))
theorem csu_blames {s : Nat} (hs : s < 7) (f : Nat → Int32) : va_up (cput g x0 P σ hp) (x0 + (cSA s + 8)) (some (.inl (g.2.1 2, 24 * cWd s, .inl f))) = cput g x0 P (cuGI σ s 5 f) hp := c_upGI (cSl_blames s hs) f
theorem cs_errors {s : Nat} (hs : s < 7) {K : Option Nat → Prop} : zgR (cput g x0 P σ hp) (some (x0 + cSA s)) [1] 6 K = K (some (x0 + (cSA s + 10))) := by unfold zgR; rw [cs_o hs]; rfl
theorem cSl_errors_d : ∀ s, s < 7 → (cSA s + 10 < 231 ∧ (cwL.getD (cSA s + 10) (0, 0, 0, 0, 0)).1 = 6 ∧ (cwL.getD (cSA s + 10) (0, 0, 0, 0, 0)).2.1 = s ∧ (cwL.getD (cSA s + 10) (0, 0, 0, 0, 0)).2.2.1 = 6 ∧ (cwL.getD (cSA s + 10) (0, 0, 0, 0, 0)).2.2.2.1 = 2 ∧ (cwL.getD (cSA s + 10) (0, 0, 0, 0, 0)).2.2.2.2 = cWd s) := by decide +kernel
theorem cSl_errors : ∀ s, s < 7 → cwL[cSA s + 10]? = some (6, s, 6, 2, cWd s) := fun s h => cL_of (cSl_errors_d s h)
theorem csa_errors {s : Nat} (hs : s < 7) {K : Nat → Nat → (Nat → Int32) → Prop} : zaI (g.2.1 2) (cput g x0 P σ hp) (some (x0 + (cSA s + 10))) K = K (x0 + (cSA s + 10)) (cWd s) ((σ.2.2.1 s).1 6) := c_aI (q := 0) (cput_x (cSl_errors s hs) (show (6 : Nat) ≠ 13 by decide))
theorem csu_errors {s : Nat} (hs : s < 7) (f : Nat → Int32) : va_up (cput g x0 P σ hp) (x0 + (cSA s + 10)) (some (.inl (g.2.1 2, cWd s, .inl f))) = cput g x0 P (cuGI σ s 6 f) hp := c_upGI (cSl_errors s hs) f
theorem cs_blameds {s : Nat} (hs : s < 7) {K : Option Nat → Prop} : zgR (cput g x0 P σ hp) (some (x0 + cSA s)) [1] 7 K = K (some (x0 + (cSA s + 11))) := by unfold zgR; rw [cs_o hs]; rfl
theorem cSl_blameds_d : ∀ s, s < 7 → (cSA s + 11 < 231 ∧ (cwL.getD (cSA s + 11) (0, 0, 0, 0, 0)).1 = 6 ∧ (cwL.getD (cSA s + 11) (0, 0, 0, 0, 0)).2.1 = s ∧ (cwL.getD (cSA s + 11) (0, 0, 0, 0, 0)).2.2.1 = 7 ∧ (cwL.getD (cSA s + 11) (0, 0, 0, 0, 0)).2.2.2.1 = 2 ∧ (cwL.getD (cSA s + 11) (0, 0, 0, 0, 0)).2.2.2.2 = cWd s) := by decide +kernel
theorem cSl_blameds : ∀ s, s < 7 → cwL[cSA s + 11]? = some (6, s, 7, 2, cWd s) := fun s h => cL_of (cSl_blameds_d s h)
theorem csa_blameds {s : Nat} (hs : s < 7) {K : Nat → Nat → (Nat → Int32) → Prop} : zaI (g.2.1 2) (cput g x0 P σ hp) (some (x0 + (cSA s + 11))) K = K (x0 + (cSA s + 11)) (cWd s) ((σ.2.2.1 s).1 7) := c_aI (q := 0) (cput_x (cSl_blameds s hs) (show (6 : Nat) ≠ 13 by decide))
theorem csu_blameds {s : Nat} (hs : s < 7) (f : Nat → Int32) : va_up (cput g x0 P σ hp) (x0 + (cSA s + 11)) (some (.inl (g.2.1 2, cWd s, .inl f))) = cput g x0 P (cuGI σ s 7 f) hp := c_upGI (cSl_blameds s hs) f
theorem cs_ones {s : Nat} (hs : s < 7) {K : Option Nat → Prop} : zgR (cput g x0 P σ hp) (some (x0 + cSA s)) [1] 8 K = K (some (x0 + (cSA s + 1))) := by unfold zgR; rw [cs_o hs]; rfl
theorem cSl_ones_d : ∀ s, s < 7 → (cSA s + 1 < 231 ∧ (cwL.getD (cSA s + 1) (0, 0, 0, 0, 0)).1 = 7 ∧ (cwL.getD (cSA s + 1) (0, 0, 0, 0, 0)).2.1 = s ∧ (cwL.getD (cSA s + 1) (0, 0, 0, 0, 0)).2.2.1 = 8 ∧ (cwL.getD (cSA s + 1) (0, 0, 0, 0, 0)).2.2.2.1 = 1 ∧ (cwL.getD (cSA s + 1) (0, 0, 0, 0, 0)).2.2.2.2 = 8) := by decide +kernel
theorem cSl_ones : ∀ s, s < 7 → cwL[cSA s + 1]? = some (7, s, 8, 1, 8) := fun s h => cL_of (cSl_ones_d s h)
theorem csa_ones {s : Nat} (hs : s < 7) {K : Nat → Nat → (Nat → UInt64) → Prop} : zaD (g.2.1 1) (cput g x0 P σ hp) (some (x0 + (cSA s + 1))) K = K (x0 + (cSA s + 1)) (8) ((σ.2.2.1 s).2.1 8) := c_aD (cput_x (cSl_ones s hs) (show (7 : Nat) ≠ 13 by decide))
theorem csu_ones {s : Nat} (hs : s < 7) (f : Nat → UInt64) : va_up (cput g x0 P σ hp) (x0 + (cSA s + 1)) (some (.inl (g.2.1 1, 8, .inr (.inr (.inr (.inl f)))))) = cput g x0 P (cuGD σ s 8 f) hp := c_upGD (cSl_ones s hs) f
theorem cs_others {s : Nat} (hs : s < 7) {K : Option Nat → Prop} : zgR (cput g x0 P σ hp) (some (x0 + cSA s)) [1] 9 K = K (some (x0 + (cSA s + 2))) := by unfold zgR; rw [cs_o hs]; rfl
theorem cSl_others_d : ∀ s, s < 7 → (cSA s + 2 < 231 ∧ (cwL.getD (cSA s + 2) (0, 0, 0, 0, 0)).1 = 7 ∧ (cwL.getD (cSA s + 2) (0, 0, 0, 0, 0)).2.1 = s ∧ (cwL.getD (cSA s + 2) (0, 0, 0, 0, 0)).2.2.1 = 9 ∧ (cwL.getD (cSA s + 2) (0, 0, 0, 0, 0)).2.2.2.1 = 1 ∧ (cwL.getD (cSA s + 2) (0, 0, 0, 0, 0)).2.2.2.2 = 8) := by decide +kernel
theorem cSl_others : ∀ s, s < 7 → cwL[cSA s + 2]? = some (7, s, 9, 1, 8) := fun s h => cL_of (cSl_others_d s h)
theorem csa_others {s : Nat} (hs : s < 7) {K : Nat → Nat → (Nat → UInt64) → Prop} : zaD (g.2.1 1) (cput g x0 P σ hp) (some (x0 + (cSA s + 2))) K = K (x0 + (cSA s + 2)) (8) ((σ.2.2.1 s).2.1 9) := c_aD (cput_x (cSl_others s hs) (show (7 : Nat) ≠ 13 by decide))
theorem csu_others {s : Nat} (hs : s < 7) (f : Nat → UInt64) : va_up (cput g x0 P σ hp) (x0 + (cSA s + 2)) (some (.inl (g.2.1 1, 8, .inr (.inr (.inr (.inl f)))))) = cput g x0 P (cuGD σ s 9 f) hp := c_upGD (cSl_others s hs) f
theorem cs_firstOnes {s : Nat} (hs : s < 7) {K : Option Nat → Prop} : zgR (cput g x0 P σ hp) (some (x0 + cSA s)) [1] 10 K = K (some (x0 + (cSA s + 3))) := by unfold zgR; rw [cs_o hs]; rfl
theorem cSl_firstOnes_d : ∀ s, s < 7 → (cSA s + 3 < 231 ∧ (cwL.getD (cSA s + 3) (0, 0, 0, 0, 0)).1 = 6 ∧ (cwL.getD (cSA s + 3) (0, 0, 0, 0, 0)).2.1 = s ∧ (cwL.getD (cSA s + 3) (0, 0, 0, 0, 0)).2.2.1 = 10 ∧ (cwL.getD (cSA s + 3) (0, 0, 0, 0, 0)).2.2.2.1 = 2 ∧ (cwL.getD (cSA s + 3) (0, 0, 0, 0, 0)).2.2.2.2 = 8) := by decide +kernel
theorem cSl_firstOnes : ∀ s, s < 7 → cwL[cSA s + 3]? = some (6, s, 10, 2, 8) := fun s h => cL_of (cSl_firstOnes_d s h)
theorem csa_firstOnes {s : Nat} (hs : s < 7) {K : Nat → Nat → (Nat → Int32) → Prop} : zaI (g.2.1 2) (cput g x0 P σ hp) (some (x0 + (cSA s + 3))) K = K (x0 + (cSA s + 3)) (8) ((σ.2.2.1 s).1 10) := c_aI (q := 0) (cput_x (cSl_firstOnes s hs) (show (6 : Nat) ≠ 13 by decide))
theorem csu_firstOnes {s : Nat} (hs : s < 7) (f : Nat → Int32) : va_up (cput g x0 P σ hp) (x0 + (cSA s + 3)) (some (.inl (g.2.1 2, 8, .inl f))) = cput g x0 P (cuGI σ s 10 f) hp := c_upGI (cSl_firstOnes s hs) f
theorem cs_firstOthers {s : Nat} (hs : s < 7) {K : Option Nat → Prop} : zgR (cput g x0 P σ hp) (some (x0 + cSA s)) [1] 11 K = K (some (x0 + (cSA s + 4))) := by unfold zgR; rw [cs_o hs]; rfl
theorem cSl_firstOthers_d : ∀ s, s < 7 → (cSA s + 4 < 231 ∧ (cwL.getD (cSA s + 4) (0, 0, 0, 0, 0)).1 = 6 ∧ (cwL.getD (cSA s + 4) (0, 0, 0, 0, 0)).2.1 = s ∧ (cwL.getD (cSA s + 4) (0, 0, 0, 0, 0)).2.2.1 = 11 ∧ (cwL.getD (cSA s + 4) (0, 0, 0, 0, 0)).2.2.2.1 = 2 ∧ (cwL.getD (cSA s + 4) (0, 0, 0, 0, 0)).2.2.2.2 = 8) := by decide +kernel
theorem cSl_firstOthers : ∀ s, s < 7 → cwL[cSA s + 4]? = some (6, s, 11, 2, 8) := fun s h => cL_of (cSl_firstOthers_d s h)
theorem csa_firstOthers {s : Nat} (hs : s < 7) {K : Nat → Nat → (Nat → Int32) → Prop} : zaI (g.2.1 2) (cput g x0 P σ hp) (some (x0 + (cSA s + 4))) K = K (x0 + (cSA s + 4)) (8) ((σ.2.2.1 s).1 11) := c_aI (q := 0) (cput_x (cSl_firstOthers s hs) (show (6 : Nat) ≠ 13 by decide))
theorem csu_firstOthers {s : Nat} (hs : s < 7) (f : Nat → Int32) : va_up (cput g x0 P σ hp) (x0 + (cSA s + 4)) (some (.inl (g.2.1 2, 8, .inl f))) = cput g x0 P (cuGI σ s 11 f) hp := c_upGI (cSl_firstOthers s hs) f
/-! BitSets -/
theorem cBl_0_d : ∀ b, b < 49 → (cBA b < 231 ∧ (cwL.getD (cBA b) (0, 0, 0, 0, 0)).1 = 8 ∧ (cwL.getD (cBA b) (0, 0, 0, 0, 0)).2.1 = b ∧ (cwL.getD (cBA b) (0, 0, 0, 0, 0)).2.2.1 = 0 ∧ (cwL.getD (cBA b) (0, 0, 0, 0, 0)).2.2.2.1 = 0 ∧ (cwL.getD (cBA b) (0, 0, 0, 0, 0)).2.2.2.2 = 0) := by decide +kernel
theorem cBl_0 : ∀ b, b < 49 → cwL[cBA b]? = some (8, b, 0, 0, 0) := fun b h => cL_of (cBl_0_d b h)
theorem cBl_1_d : ∀ b, b < 49 → (cBA b + 1 < 231 ∧ (cwL.getD (cBA b + 1) (0, 0, 0, 0, 0)).1 = 9 ∧ (cwL.getD (cBA b + 1) (0, 0, 0, 0, 0)).2.1 = b ∧ (cwL.getD (cBA b + 1) (0, 0, 0, 0, 0)).2.2.1 = 0 ∧ (cwL.getD (cBA b + 1) (0, 0, 0, 0, 0)).2.2.2.1 = 4 ∧ (cwL.getD (cBA b + 1) (0, 0, 0, 0, 0)).2.2.2.2 = 1) := by decide +kernel
theorem cBl_1 : ∀ b, b < 49 → cwL[cBA b + 1]? = some (9, b, 0, 4, 1) := fun b h => cL_of (cBl_1_d b h)
theorem cput_b {b : Nat} (hb : b < 49) : cput g x0 P σ hp (x0 + cBA b) = some (.inr (34, [.ref (x0 + (cBA b + 1)), .int (σ.2.2.2.2.2.2.2.1 b).2, .int 1])) := cput_x (cBl_0 b hb) (show (8 : Nat) ≠ 13 by decide)
theorem cput_w {b : Nat} (hb : b < 49) : cput g x0 P σ hp (x0 + (cBA b + 1)) = some (.inl (g.2.1 4, 1, .inr (.inl (σ.2.2.2.2.2.2.2.1 b).1))) := cput_x (cBl_1 b hb) (show (9 : Nat) ≠ 13 by decide)
theorem cb_un {b : Nat} (hb : b < 49) (v : Int32) : va_up (cput g x0 P σ hp) (x0 + cBA b) (some (.inr (34, [.ref (x0 + (cBA b + 1)), .int v, .int 1]))) = cput g x0 P (cuBn σ b v) hp := by
  refine cput_up (cBl_0 b hb) (show (8 : Nat) ≠ 13 by decide) (by show (.inr (34, [.ref (x0 + (cBA b + 1)), .int ((cuBn σ b v).2.2.2.2.2.2.2.1 b).2, .int 1]) : va_E) = _; rw [cBn_s]) (fun y c' h1 e13 h2 => ?_) rfl rfl rfl
  refine cwR_x rfl rfl rfl (fun _ => rfl) (fun _ => rfl) (fun _ => rfl) (fun e => ?_) (fun _ => by rw [cBn_1]) (fun _ => rfl) (fun _ => rfl) (fun _ => rfl) e13
  rw [cBn_o (fun q => c_ne h1 (cBl_0 b hb) h2 ?_)]
  unfold cPos
  simp only [e, q]
  rfl
theorem cb_uw {b : Nat} (hb : b < 49) (f : Nat → Int64) : va_up (cput g x0 P σ hp) (x0 + (cBA b + 1)) (some (.inl (g.2.1 4, 1, .inr (.inl f)))) = cput g x0 P (cuBw σ b f) hp := by
  refine cput_up (cBl_1 b hb) (show (9 : Nat) ≠ 13 by decide) (by show (.inl (g.2.1 4, 1, .inr (.inl ((cuBw σ b f).2.2.2.2.2.2.2.1 b).1)) : va_E) = _; rw [cBw_s]) (fun y c' h1 e13 h2 => ?_) rfl rfl rfl
  refine cwR_x rfl rfl rfl (fun _ => rfl) (fun _ => rfl) (fun _ => rfl) (fun _ => by rw [cBw_2]) (fun e => ?_) (fun _ => rfl) (fun _ => rfl) (fun _ => rfl) e13
  rw [cBw_o (fun q => c_ne h1 (cBl_1 b hb) h2 ?_)]
  unfold cPos
  simp only [e, q]
  rfl
/-! the deque, the rows -/
theorem cput_q : cput g x0 P σ hp (x0 + 24) = some (.inr (35, [.ref (x0 + 25), .int σ.2.2.2.2.2.2.2.2.1.2.1, .int σ.2.2.2.2.2.2.2.2.1.2.2])) := cput_x (q := 24) (c := (10, 0, 0, 0, 0)) rfl (by decide)
theorem cput_e : cput g x0 P σ hp (x0 + 25) = some (.inl (g.2.1 13, 33, .inr (.inr (.inr (.inr σ.2.2.2.2.2.2.2.2.1.1))))) := cput_x (q := 25) (c := (11, 0, 0, 13, 33)) rfl (by decide)
theorem cq_u (h t : Int32) : va_up (cput g x0 P σ hp) (x0 + 24) (some (.inr (35, [.ref (x0 + 25), .int h, .int t]))) = cput g x0 P (cuQ σ (σ.2.2.2.2.2.2.2.2.1.1, h, t)) hp := by
  refine cput_up (q := 24) (c := (10, 0, 0, 0, 0)) rfl (by decide) rfl (fun y c' h1 e13 h2 => ?_) rfl rfl rfl
  refine cwR_x rfl rfl rfl (fun _ => rfl) (fun _ => rfl) (fun _ => rfl) (fun _ => rfl) (fun _ => rfl) (fun e => ?_) (fun _ => rfl) (fun _ => rfl) e13
  refine absurd ?_ h2
  rw [← cwL_p h1]
  unfold cPos
  simp only [e]
  rfl
theorem cq_e (f : Nat → Option Nat) : va_up (cput g x0 P σ hp) (x0 + 25) (some (.inl (g.2.1 13, 33, .inr (.inr (.inr (.inr f)))))) = cput g x0 P (cuQ σ (f, σ.2.2.2.2.2.2.2.2.1.2)) hp := by
  refine cput_up (q := 25) (c := (11, 0, 0, 13, 33)) rfl (by decide) rfl (fun y c' h1 e13 h2 => ?_) rfl rfl rfl
  refine cwR_x rfl rfl rfl (fun _ => rfl) (fun _ => rfl) (fun _ => rfl) (fun _ => rfl) (fun _ => rfl) (fun _ => rfl) (fun e => ?_) (fun _ => rfl) e13
  refine absurd ?_ h2
  rw [← cwL_p h1]
  unfold cPos
  simp only [e]
  rfl
theorem cRl_d : ∀ r, r < 4 → (227 + r < 231 ∧ (cwL.getD (227 + r) (0, 0, 0, 0, 0)).1 = 12 ∧ (cwL.getD (227 + r) (0, 0, 0, 0, 0)).2.1 = r ∧ (cwL.getD (227 + r) (0, 0, 0, 0, 0)).2.2.1 = 0 ∧ (cwL.getD (227 + r) (0, 0, 0, 0, 0)).2.2.2.1 = 0 ∧ (cwL.getD (227 + r) (0, 0, 0, 0, 0)).2.2.2.2 = 0) := by decide +kernel
theorem cRl : ∀ r, r < 4 → cwL[227 + r]? = some (12, r, 0, 0, 0) := fun r h => cL_of (cRl_d r h)
theorem cput_t {r : Nat} (hr : r < 4) : cput g x0 P σ hp (x0 + (227 + r)) = some (.inr (3, [va_rf (σ.2.2.2.2.2.2.2.2.2.1 r)])) := cput_x (cRl r hr) (show (12 : Nat) ≠ 13 by decide)
theorem cr_g {r : Nat} (hr : r < 4) {K : Option Nat → Prop} : zgR (cput g x0 P σ hp) (some (x0 + (227 + r))) [3] 0 K = K (σ.2.2.2.2.2.2.2.2.2.1 r) := by
  unfold zgR zo
  simp only [cput_t hr, List.mem_singleton, true_and]
  cases σ.2.2.2.2.2.2.2.2.2.1 r <;> rfl
theorem cr_p {r : Nat} (hr : r < 4) {K : zHp → Prop} (v : Option Nat) : zpt g (cput g x0 P σ hp) (some (x0 + (227 + r))) [3] 0 (va_rf v) K = (zB g ≤ x0 + (227 + r) ∧ K (cput g x0 P (cuW σ (va_up σ.2.2.2.2.2.2.2.2.2.1 r v)) hp)) := by
  unfold zpt zo
  simp only [cput_t hr, List.mem_singleton, true_and]
  rw [cput_up (σ := σ) (σ' := cuW σ (va_up σ.2.2.2.2.2.2.2.2.2.1 r v)) (cRl r hr) (show (12 : Nat) ≠ 13 by decide) ?_ ?_ rfl rfl rfl]
  · simp
  · show (.inr (3, [va_rf (va_up _ r v r)]) : va_E) = _
    rw [va_s]
    rfl
  · intro y c' h1 e13 h2
    refine cwR_x rfl rfl rfl (fun _ => rfl) (fun _ => rfl) (fun _ => rfl) (fun _ => rfl) (fun _ => rfl) (fun _ => rfl) (fun _ => rfl) (fun e => ?_) e13
    refine va_o (fun q => c_ne h1 (cRl r hr) h2 ?_)
    unfold cPos
    simp only [e, q]
    rfl
/-! the cells -/
theorem cc_o (hW : cW g x0 P hp) {c : Nat} (hc : c < 24) {K : Nat → Nat → List Value → Prop} : zo (cput g x0 P σ hp) (some (P.1 c)) [2, 6, 7, 8, 9, 10] K = K (P.1 c) (P.2.1 c) [.int (nI c), va_rf (σ.2.2.2.2.2.2.2.2.2.2.1 c), .double (σ.2.2.2.1 c)] := by
  have := (hW.2.2.1 c hc).2.2.2
  unfold zo
  simp only [cput_c hW hc, cpl, this, true_and]
theorem cc_n (hW : cW g x0 P hp) {c : Nat} (hc : c < 24) {K : Int32 → Prop} : zgI (cput g x0 P σ hp) (some (P.1 c)) [2, 6, 7, 8, 9, 10] 0 K = K (nI c) := by unfold zgI; rw [cc_o hW hc]; rfl
theorem cc_f (hW : cW g x0 P hp) {c : Nat} (hc : c < 24) {K : Option Nat → Prop} : zgR (cput g x0 P σ hp) (some (P.1 c)) [2, 6, 7, 8, 9, 10] 1 K = K (σ.2.2.2.2.2.2.2.2.2.2.1 c) := by unfold zgR; rw [cc_o hW hc]; cases σ.2.2.2.2.2.2.2.2.2.2.1 c <;> rfl
theorem cc_w (hW : cW g x0 P hp) {c : Nat} (hc : c < 24) {K : UInt64 → Prop} : zgD (cput g x0 P σ hp) (some (P.1 c)) [2, 6, 7, 8, 9, 10] 2 K = K (σ.2.2.2.1 c) := by unfold zgD; rw [cc_o hW hc]; rfl
theorem cc_pw (hW : cW g x0 P hp) {c : Nat} (hc : c < 24) {K : zHp → Prop} (v : UInt64) : zpt g (cput g x0 P σ hp) (some (P.1 c)) [2, 6, 7, 8, 9, 10] 2 (.double v) K = K (cput g x0 P (cuO σ c v) hp) := by
  unfold zpt
  rw [cc_o hW hc, cput_upc hW hc (σ := σ) (σ' := cuO σ c v) ?_ ?_ (fun k => ?_) rfl]
  · simp [(hW.2.2.1 c hc).2.2.1]
  · unfold cpl cuO; simp only [va_s]; rfl
  · intro y hy hne; unfold cpl cuO; simp only [va_o hne]
  · rfl
theorem cc_pf (hW : cW g x0 P hp) {c : Nat} (hc : c < 24) {K : zHp → Prop} (v : Option Nat) : zpt g (cput g x0 P σ hp) (some (P.1 c)) [2, 6, 7, 8, 9, 10] 1 (va_rf v) K = K (cput g x0 P (cuF σ (va_up σ.2.2.2.2.2.2.2.2.2.2.1 c v)) hp) := by
  unfold zpt
  rw [cc_o hW hc, cput_upc hW hc (σ := σ) (σ' := cuF σ (va_up σ.2.2.2.2.2.2.2.2.2.2.1 c v)) ?_ ?_ (fun k => ?_) rfl]
  · simp [(hW.2.2.1 c hc).2.2.1]
  · unfold cpl cuF cuX; simp only [va_s]; rfl
  · intro y hy hne; unfold cpl cuF cuX; simp only [va_o hne]
  · rfl
/-! what never changes -/
theorem ch_o (hW : cW g x0 P hp) {a ci : Nat} {fs : List Value} (h : hp a = some (.inr (ci, fs))) {S : List Nat} (hS : ci ∈ S) {K : Nat → Nat → List Value → Prop} : zo (cput g x0 P σ hp) (some a) S K = K a ci fs := by
  unfold zo; simp only [cput_h hW h, hS, true_and]
theorem ch_I (hW : cW g x0 P hp) {a ci k : Nat} {fs : List Value} (h : hp a = some (.inr (ci, fs))) {x : Int32} (hv : fs[k]? = some (.int x)) {S : List Nat} (hS : ci ∈ S) {K : Int32 → Prop} : zgI (cput g x0 P σ hp) (some a) S k K = K x := by unfold zgI; rw [ch_o hW h hS, hv]; rfl
theorem ch_D (hW : cW g x0 P hp) {a ci k : Nat} {fs : List Value} (h : hp a = some (.inr (ci, fs))) {x : UInt64} (hv : fs[k]? = some (.double x)) {S : List Nat} (hS : ci ∈ S) {K : UInt64 → Prop} : zgD (cput g x0 P σ hp) (some a) S k K = K x := by unfold zgD; rw [ch_o hW h hS, hv]; rfl
theorem ch_R (hW : cW g x0 P hp) {a ci k : Nat} {fs : List Value} (h : hp a = some (.inr (ci, fs))) {r : Option Nat} (hv : fs[k]? = some (va_rf r)) {S : List Nat} (hS : ci ∈ S) {K : Option Nat → Prop} : zgR (cput g x0 P σ hp) (some a) S k K = K r := by unfold zgR; rw [ch_o hW h hS, hv]; cases r <;> rfl
end CR
