set_option maxRecDepth 100000
/-! a table is opened; small methods of cells -/
section OP
variable {l : Launch} {g : zG} {d x0 : Nat} {P : cP} {σ σ' σ1 σ2 : cS} {hp : zHp} {nx : Nat} {fm : sF} {ly : sY} {kd : Nat → Int32} {rk : Nat → Nat} {X : cX}
theorem cva_uu {α : Type} {f : Nat → α} {k : Nat} {u v : α} : va_up (va_up f k u) k v = va_up f k v := by
  funext q
  by_cases e : q = k
  · subst e; rw [va_s, va_s]
  · rw [va_o e, va_o e, va_o e]
theorem cva_id {α : Type} {f : Nat → α} {k : Nat} : va_up f k (f k) = f := by
  funext q
  by_cases e : q = k
  · subst e; rw [va_s]
  · rw [va_o e]
theorem cGI_o {s k i : Nat} {f : Nat → Int32} (h : i ≠ s) : (cuGI σ s k f).2.2.1 i = σ.2.2.1 i := by unfold cuGI; simp only [va_o h]
theorem cGD_o {s k i : Nat} {f : Nat → UInt64} (h : i ≠ s) : (cuGD σ s k f).2.2.1 i = σ.2.2.1 i := by unfold cuGD; simp only [va_o h]
theorem cGD_GI {s k j : Nat} {f f' : Nat → UInt64} {h : Nat → Int32} : cuGD (cuGI (cuGD σ s k f) s j h) s k f' = cuGI (cuGD σ s k f') s j h := by
  unfold cuGD cuGI
  simp only [va_s, cva_uu]
theorem cGI_GI {s j : Nat} {h h' : Nat → Int32} : cuGI (cuGI σ s j h) s j h' = cuGI σ s j h' := by
  unfold cuGI
  simp only [va_s, cva_uu]
theorem cGI_id {s k j : Nat} : cuGI (cuGD σ s k ((σ.2.2.1 s).2.1 k)) s j ((σ.2.2.1 s).1 j) = σ := by
  unfold cuGD cuGI
  simp only [va_s, cva_id]
theorem c_kps {s kD kI q1 q2 ax c : Nat} {ns : List UInt64} {K : Int32 → zHp → Nat → Prop} (r1 : ∀ τ : cS, cput g x0 P τ hp (x0 + q1) = some (.inl (g.2.1 1, 8, .inr (.inr (.inr (.inl ((τ.2.2.1 s).2.1 kD))))))) (r2 : ∀ τ : cS, cput g x0 P τ hp (x0 + q2) = some (.inl (g.2.1 2, 8, .inl ((τ.2.2.1 s).1 kI))))
    (u1 : ∀ (τ : cS) f, va_up (cput g x0 P τ hp) (x0 + q1) (some (.inl (g.2.1 1, 8, .inr (.inr (.inr (.inl f)))))) = cput g x0 P (cuGD τ s kD f) hp) (u2 : ∀ (τ : cS) f, va_up (cput g x0 P τ hp) (x0 + q2) (some (.inl (g.2.1 2, 8, .inl f))) = cput g x0 P (cuGI τ s kI f) hp)
    (hW : cW g x0 P hp) (hc : c < 24) (hA : cAx g hp ax c ns) (hn : ns.length ≤ 8) (hB : ∀ v ∈ ns, s_B v) (hd : 7 ≤ d) (hK : ∀ f h, cKp (cKi (P.2.1 c)) ns f h → K (nI (s_ul (cKi (P.2.1 c)) ns)) (cput g x0 P (cuGI (cuGD σ s kD f) s kI h) hp) nx) : zMt l g yX1_keeps cX1_keeps 7 (some .int) d 0 0 [va_rf (some ax), va_rf (some (P.1 c)), va_rf (some (x0 + q1)), va_rf (some (x0 + q2))] (cput g x0 P σ hp) nx (zQi g K) := by
  obtain ⟨nb, fn, a1, a2, a3, -⟩ := hA
  have e0 : cput g x0 P σ hp = (fun f h => cput g x0 P (cuGI (cuGD σ s kD f) s kI h) hp) ((σ.2.2.1 s).2.1 kD) ((σ.2.2.1 s).1 kI) := by
    show _ = cput g x0 P (cuGI (cuGD σ s kD _) s kI _) hp
    rw [cGI_id]
  rw [e0]
  refine c_keeps (H := fun f h => cput g x0 P (cuGI (cuGD σ s kD f) s kI h) hp) (c := c) (nb := nb) (fn := fn) (ci := P.2.1 c) hd ⟨by have := hW.1; omega, by have := hW.1; omega, fun f h => ?_, fun f h => ?_, fun f h f' => ?_, fun f h h' => ?_⟩ hn hB (fun f h => cput_h hW a1) (fun f h => cput_h hW a2) a3 (fun f h => ⟨_, cput_c hW hc⟩) (hW.2.2.1 c hc).2.2.2 hK
  · dsimp only
    rw [r1, cGI_2, cGD_s]
  · dsimp only
    rw [r2, cGI_s]
  · dsimp only
    rw [u1, cGD_GI]
  · dsimp only
    rw [u2, cGI_GI]
theorem cS_on {s : Nat} (hs : s < 7) (τ : cS) : cput g x0 P τ hp (x0 + (cSA s + 1)) = some (.inl (g.2.1 1, 8, .inr (.inr (.inr (.inl ((τ.2.2.1 s).2.1 8)))))) := cput_x (cSl_ones s hs) (show (7 : Nat) ≠ 13 by decide)
theorem cS_ot {s : Nat} (hs : s < 7) (τ : cS) : cput g x0 P τ hp (x0 + (cSA s + 2)) = some (.inl (g.2.1 1, 8, .inr (.inr (.inr (.inl ((τ.2.2.1 s).2.1 9)))))) := cput_x (cSl_others s hs) (show (7 : Nat) ≠ 13 by decide)
theorem cS_fn {s : Nat} (hs : s < 7) (τ : cS) : cput g x0 P τ hp (x0 + (cSA s + 3)) = some (.inl (g.2.1 2, 8, .inl ((τ.2.2.1 s).1 10))) := cput_x (cSl_firstOnes s hs) (show (6 : Nat) ≠ 13 by decide)
theorem cS_ft {s : Nat} (hs : s < 7) (τ : cS) : cput g x0 P τ hp (x0 + (cSA s + 4)) = some (.inl (g.2.1 2, 8, .inl ((τ.2.2.1 s).1 11))) := cput_x (cSl_firstOthers s hs) (show (6 : Nat) ≠ 13 by decide)
/-- what opening does -/
def cOpd (t : Nat) (L : sL) (kd : Nat → Int32) (σ σ' : cS) : Prop := σ'.1 = σ.1 ∧ σ'.2.1 = σ.2.1 ∧ σ'.2.2.2 = σ.2.2.2 ∧ (∀ s, s ≠ t → σ'.2.2.1 s = σ.2.2.1 s) ∧ (σ'.2.2.1 t).2.2 = (σ.2.2.1 t).2.2 + 1 ∧ (∀ k, k ≠ 10 → k ≠ 11 → (σ'.2.2.1 t).1 k = (σ.2.2.1 t).1 k) ∧ (∀ k, k ≠ 8 → k ≠ 9 → (σ'.2.2.1 t).2.1 k = (σ.2.2.1 t).2.1 k) ∧ cKp (kd L.2.1) L.2.2.2.1 ((σ'.2.2.1 t).2.1 8) ((σ'.2.2.1 t).1 10) ∧ ∀ b, L.2.2.1 = some b → cKp (kd b) L.2.2.2.2 ((σ'.2.2.1 t).2.1 9) ((σ'.2.2.1 t).1 11)
theorem c_opens {a t : Nat} {L : sL} {K : zHp → Nat → Prop} (hd : 9 ≤ d) (hW : cW g x0 P hp) (hS : cSH g x0 P hp σ.2.2.2.2 fm ly kd) (ht : t < 6) (hT : cTb g hp a t L) (hTk : cTk L) (hB1 : ∀ v ∈ L.2.2.2.1, s_B v) (hB2 : ∀ v ∈ L.2.2.2.2, s_B v) (hK : ∀ σ', cOpd t L kd σ σ' → K (cput g x0 P σ' hp) nx) : zMt l g yX0_opens cX0_opens 3 none d 0 0 [.ref x0, va_rf (some a), va_rf (some (x0 + cSA t))] (cput g x0 P σ hp) nx (zQv g K) := by
  obtain ⟨d, rfl⟩ := Nat.exists_eq_add_of_le' (show 1 ≤ d by omega)
  have hs7 : t < 7 := by omega
  obtain ⟨a1, r2, t1, t2, t3⟩ := hT
  obtain ⟨b1, t4⟩ : ∃ b1, hp a1 = some (.inr (32, [.int (nI L.2.1), .ref b1])) := by obtain ⟨b1, f1, q1, -, -⟩ := t2; exact ⟨b1, q1⟩
  obtain ⟨k1, k2, k3, k4, k5⟩ := hTk
  have m1 : ∀ {τ : cS} {Q : Option Nat → Prop}, zgR (cput g x0 P τ hp) (some a) [31] 2 Q = Q (some a1) := fun {τ Q} => ch_R hW t1 (k := 2) (r := some a1) rfl (by decide)
  have m2 : ∀ {τ : cS} {Q : Option Nat → Prop}, zgR (cput g x0 P τ hp) (some a) [31] 3 Q = Q r2 := fun {τ Q} => ch_R hW t1 (k := 3) (r := r2) rfl (by decide)
  have m3 : ∀ {τ : cS} {Q : Int32 → Prop}, zgI (cput g x0 P τ hp) (some a1) [32] 0 Q = Q (nI L.2.1) := fun {τ Q} => ch_I hW t4 (k := 0) rfl (by decide)
  have zB0 : zB g ≤ x0 + cSA t := by have := hW.1; omega
  have e1 : ∀ {v : Int32}, (cuT σ t v).2.2.2.2.2.2.1 0 = σ.2.2.2.2.2.2.1 0 := fun {v} => rfl
  have cl : ∀ c, c < 24 → σ.2.2.2.2.2.2.1 0 c = some (P.1 c) := hS.1
  have c1 : (nI L.2.1).toNatClampNeg = L.2.1 := nI_clamp (by omega)
  have i1 : vp_in (nI L.2.1) 24 := vp_in_nI k2 (by decide)
  apply met_X0_opens
  unfold wp_X0_opens
  simp only [cs_stamp hs7, cs_pstamp hs7, zB0, true_and, m1, m3, cg_cells, ca_cells, e1, c1, i1, forall_eq, cl L.2.1 k2, cs_ones hs7, cs_firstOnes hs7]
  refine c_kps (kD := 8) (kI := 10) (s := t) (cS_on hs7) (cS_fn hs7) (fun τ f => csu_ones hs7 f) (fun τ f => csu_firstOnes hs7 f) hW k2 t2 k4 hB1 (by omega) (fun f h hk => ?_)
  rw [← hS.2.1 _ k2] at hk
  obtain ⟨σ1, e2⟩ : ∃ σ1, σ1 = cuGI (cuGD (cuT σ t ((σ.2.2.1 t).2.2 + 1)) t 8 f) t 10 h := ⟨_, rfl⟩
  rw [← e2]
  have o1 : σ1.1 = σ.1 := by rw [e2]; rfl
  have o2 : σ1.2.1 = σ.2.1 := by rw [e2]; rfl
  have o3 : σ1.2.2.2 = σ.2.2.2 := by rw [e2]; rfl
  have o4 : ∀ s, s ≠ t → σ1.2.2.1 s = σ.2.2.1 s := fun s q => by rw [e2, cGI_o q, cGD_o q, cT_o q]
  have o5 : (σ1.2.2.1 t).2.2 = (σ.2.2.1 t).2.2 + 1 := by rw [e2, cGI_2, cGD_3, cT_s]
  have o6 : ∀ k, k ≠ 10 → (σ1.2.2.1 t).1 k = (σ.2.2.1 t).1 k := fun k q => by rw [e2, cGI_1 (fun z => q z.2), cGD_1, cT_1]
  have o7 : ∀ k, k ≠ 8 → (σ1.2.2.1 t).2.1 k = (σ.2.2.1 t).2.1 k := fun k q => by rw [e2, cGI_2, cGD_2 (fun z => q z.2), cT_2]
  have o8 : (σ1.2.2.1 t).2.1 8 = f := by rw [e2, cGI_2, cGD_s]
  have o9 : (σ1.2.2.1 t).1 10 = h := by rw [e2, cGI_s]
  rw [← o8, ← o9] at hk
  clear e2 o8 o9
  simp only [m2]
  refine ⟨_, fun _ _ h => h, ?_⟩
  refine ⟨fun z => ?_, fun z => ?_⟩
  · refine hK σ1 ⟨o1, o2, o3, o4, o5, fun k q _ => o6 k q, fun k q _ => o7 k q, hk, fun b hb => ?_⟩
    rcases t3 with ⟨q, -⟩ | ⟨b', a2, -, q, -⟩
    · rw [q] at hb; cases hb
    · rw [z] at q; cases q
  · rcases t3 with ⟨-, q⟩ | ⟨b, a2, q1, q2, q3⟩
    · exact absurd q z
    subst q2
    obtain ⟨b2, t5⟩ : ∃ b1, hp a2 = some (.inr (32, [.int (nI b), .ref b1])) := by obtain ⟨b1, f1, q1, -, -⟩ := q3; exact ⟨b1, q1⟩
    obtain ⟨w1, w2, w3, w4⟩ := k5 b q1
    have m4 : ∀ {τ : cS} {Q : Int32 → Prop}, zgI (cput g x0 P τ hp) (some a2) [32] 0 Q = Q (nI b) := fun {τ Q} => ch_I hW t5 (k := 0) rfl (by decide)
    have cl : ∀ c, c < 24 → σ1.2.2.2.2.2.2.1 0 c = some (P.1 c) := by rw [o3]; exact hS.1
    have c2 : (nI b).toNatClampNeg = b := nI_clamp (by omega)
    have i2 : vp_in (nI b) 24 := vp_in_nI w1 (by decide)
    simp only [m2, m4, cg_cells, ca_cells, c2, i2, forall_eq, true_and, cl b w1, cs_others hs7, cs_firstOthers hs7]
    refine c_kps (kD := 9) (kI := 11) (s := t) (cS_ot hs7) (cS_ft hs7) (fun τ f => csu_others hs7 f) (fun τ f => csu_firstOthers hs7 f) hW w1 q3 w4 hB2 (by omega) (fun f2 h2 hk2 => ?_)
    rw [← hS.2.1 _ w1] at hk2
    refine hK _ ⟨o1, o2, o3, fun s q => ?_, ?_, fun k q3 q4 => ?_, fun k q3 q4 => ?_, ?_, fun b' hb' => ?_⟩
    · rw [cGI_o q, cGD_o q]; exact o4 s q
    · rw [cGI_2, cGD_3]; exact o5
    · rw [cGI_1 (fun z => q4 z.2), cGD_1]; exact o6 k q3
    · rw [cGI_2, cGD_2 (fun z => q4 z.2)]; exact o7 k q3
    · rw [cGI_1 (fun z => absurd z.2 (by decide)), cGD_1, cGI_2, cGD_2 (fun z => absurd z.2 (by decide))]; exact hk
    · rw [q1] at hb'
      cases hb'
      rw [cGI_s, cGI_2, cGD_s]
      exact hk2
theorem c_isInput {c : Nat} {K : Int32 → zHp → Nat → Prop} (hd : 1 ≤ d) (hW : cW g x0 P hp) (hc : c < 24) (h1 : σ.2.2.2.2.2.2.2.2.2.2.1 c = none → K 1 (cput g x0 P σ hp) nx) (h0 : σ.2.2.2.2.2.2.2.2.2.2.1 c ≠ none → K 0 (cput g x0 P σ hp) nx) : zMt l g yX2_isInput cX2_isInput 1 (some .boolean) d 0 0 [.ref (P.1 c)] (cput g x0 P σ hp) nx (zQi g K) := by
  obtain ⟨d, rfl⟩ := Nat.exists_eq_add_of_le' (show 1 ≤ d by omega)
  apply met_X2_isInput
  unfold wp_X2_isInput
  rw [cc_f hW hc]
  refine ⟨_, fun _ h => h, ?_⟩
  exact ⟨fun z => ⟨Or.inr rfl, h1 z⟩, fun z => ⟨Or.inl rfl, h0 z⟩⟩
theorem c_nan : FP.dcmp cNaN cNaN = none := by decide +kernel
theorem c_isEmpty {c : Nat} {K : Int32 → zHp → Nat → Prop} (hd : 1 ≤ d) (hW : cW g x0 P hp) (hc : c < 24) (h1 : ¬ s_eq (σ.2.2.2.1 c) (σ.2.2.2.1 c) → K 1 (cput g x0 P σ hp) nx) (h0 : s_eq (σ.2.2.2.1 c) (σ.2.2.2.1 c) → K 0 (cput g x0 P σ hp) nx) : zMt l g yX2_isEmpty cX2_isEmpty 1 (some .boolean) d 0 0 [.ref (P.1 c)] (cput g x0 P σ hp) nx (zQi g K) := by
  obtain ⟨d, rfl⟩ := Nat.exists_eq_add_of_le' (show 1 ≤ d by omega)
  apply met_X2_isEmpty
  unfold wp_X2_isEmpty
  simp only [cc_w hW hc]
  refine ⟨_, fun _ h => h, ?_⟩
  exact ⟨fun z => ⟨Or.inl rfl, h0 (fc_l0.mp z)⟩, fun z => ⟨Or.inr rfl, h1 (fun y => z (fc_l0.mpr y))⟩⟩
theorem cOW.em {own : Nat → UInt64} {ow : sO} (h : cOW fm kd own ow) {c : Nat} (hc : c < 24) (hf : fm c = []) : (ow c = none ↔ ¬ s_eq (own c) (own c)) := by
  rcases h.2 c hc hf with ⟨h1, h2⟩ | ⟨v, h1, h2, h3⟩
  · refine ⟨fun _ => ?_, fun _ => h1⟩
    rw [h2]
    unfold s_eq
    rw [c_nan]
    exact fun z => by cases z
  · refine ⟨fun z => (by rw [h1] at z; cases z), fun z => absurd (fc_self ?_) z⟩
    rw [h2]
    exact (fb_kp h3).f
end OP
