set_option maxRecDepth 100000
/-! calls by an interface, private methods of a superclass, a new one behind ?: -/
section Z18
variable {p : Program} {l : Launch} {e : Env} {R : Room} {s : State} {m : MethodId} {args : Array Value} {below : List Frame} {meth : Method} {c : Code} {H : Heap} {locs : List Loc} {kc ks : Nat} {Q : State → Prop}
variable {cc : ByteArray} {pc : Nat} {ls : Array Slot} {rest : List Value} {g : zG} {own : String} {nL : Nat} {hp hp' : zHp} {nx : Nat} {a : Nat} {r : Option Nat}
variable {y : MethodName} {c2 : ByteArray} {L d mc ms n idx : Nat} {ret : Option FieldType} {Qc : Array Value → State → Outcome → State → Prop} {C : String} {b0 : Nat} {As st0 : List Value} {aa : Array Value}
def zsm (r : Option Nat) (K : Nat → Prop) : Prop := match r with
  | none => False
  | some a => K a
theorem zsm_e {r : Option Nat} {K : Nat → Prop} (h : zsm r K) : ∃ a, r = some a ∧ K a := by
  unfold zsm at h
  split at h
  · exact h.elim
  · exact ⟨_, rfl, h⟩
theorem zw_runF {x : MethodName} {count : Nat} (hk : zK p s m args meth c g cc own nL) (hH : zHd g hp H) (hz : H.size = nx) (hS : va_S (zAd g) s.heap H locs) (hl : ls.size = nL) (er : r = some b0) (hM : zMt l g y c2 L ret d mc ms (.ref b0 :: As) hp nx Qc) (cw : va_CI R s args own C idx x y c2 L ret (ws_ y c2 L ret) (zrm d mc ms) mc ms n) {ci : Nat} {fs : List Value} {T : u_T} {N : Nat} (hr : hp b0 = some (.inr (ci, fs))) (hc : zcl[ci]? = some (C, T, N))
    (hn : As.length = n) (hst : st0 = As.reverse ++ va_rf r :: rest) (hW : (rest.map fun v => v.category).sum ≤ 8) (hdg : decode cc pc = .ok (.invokeinterface idx count, 5)) (hf : kc + mc ≤ R.cells ∧ ks + ms ≤ R.slots) : va_Run5 p l e R s m args below meth c H locs kc ks mc ms (F0 m pc ls st0) rest (Qc (Value.ref b0 :: As).toArray) (zAd g) := by
  subst er
  exact va_runF (hk.2.1.1 ci _ hc).2 hk.1 hM cw ⟨zSt.blind, va_recv hk.2.1 (hH.P hr) hc (q0 := 0) rfl, fun U hU hW' => ⟨rfl, hk.st hH hz hS hU hW'⟩⟩ rfl hn hl hst (lv_room hW) hdg hf
theorem zr_callFi {K : Int32 → zHp → Nat → Prop} (hr : va_Run5 p l e R s m args below meth c H locs kc ks mc ms (F0 m pc ls st0) rest (zQi g K aa) (zAd g)) (hS : va_S (zAd g) s.heap H locs)
    (kk : ∀ (r : Int32) (hp' : zHp) (nx' : Nat), K r hp' nx' → ∀ (H1 : Heap) (locs1 : List Loc), zHd g hp' H1 → H1.size = nx' → va_S (zAd g) s.heap H1 locs1 → W p l e R s m args below meth c H1 locs1 (kc + mc) (ks + ms) Q (F0 m (pc + 5) ls (.int r :: rest))) : W p l e R s m args below meth c H locs kc ks Q (F0 m pc ls st0) := by
  refine va_callFi hr hS (fun _ _ h => h) (fun _ h => h) (fun r u t H1 locs1 ht hvm hpost hB h1 h2 h3 => ?_)
  exact kk r u.1 u.2 hpost H1 locs1 (by rw [← ht]; exact hB.1) (by rw [← ht]; exact hB.2.1) h3
theorem zr_callFq {K : Option Nat → zHp → Nat → Prop} (hr : va_Run5 p l e R s m args below meth c H locs kc ks mc ms (F0 m pc ls st0) rest (zQq g K aa) (zAd g)) (hS : va_S (zAd g) s.heap H locs)
    (kk : ∀ (r : Option Nat) (hp' : zHp) (nx' : Nat), K r hp' nx' → ∀ (H1 : Heap) (locs1 : List Loc), zHd g hp' H1 → H1.size = nx' → va_S (zAd g) s.heap H1 locs1 → W p l e R s m args below meth c H1 locs1 (kc + mc) (ks + ms) Q (F0 m (pc + 5) ls (va_rf r :: rest))) : W p l e R s m args below meth c H locs kc ks Q (F0 m pc ls st0) := by
  refine va_callFq hr hS (fun _ _ h => h) (fun _ h => h) (fun r u t H1 locs1 ht hvm hpost hB h1 h2 h3 => ?_)
  exact kk r u.1 u.2 hpost H1 locs1 (by rw [← ht]; exact hB.1) (by rw [← ht]; exact hB.2.1) h3
theorem z_lw4 {w1 w2 w3 w4 : Cond} (h1 : w1 ∈ lw_all) (h2 : w2 ∈ lw_all) (h3 : w3 ∈ lw_all) (h4 : w4 ∈ lw_all) : ∀ w ∈ [w1, w2, w3, w4], w ∈ lw_all := by
  intro w hw
  simp only [List.mem_cons, List.not_mem_nil, or_false] at hw
  rcases hw with e | e | e | e <;> (rw [e]; assumption)
theorem z_F {own C : String} {idx L : Nat} {x y : MethodName} {b : ByteArray} {r : Option FieldType} (h1 : Cond.methodLink own idx x ∈ lw_all) (h3 : Cond.selects C x y ∈ lw_all) (h4 : Cond.instanceMethod y ∈ lw_all) (h5 : Cond.initialized y.cls ∈ lw_all) (h6 : Cond.code y b L r ∈ lw_all) : GoodIn lw_all (va_wsF own idx C x y (ws_ y b L r)) := lw_app (z_lw4 h1 h3 h4 h5) (lw_meth h6)
/-- a private method is selected on any class that is there -/
theorem z_selP {A : Array Value} {U : State} {C : String} {y z : MethodName} (hz : (Cond.selects C z z).before A U = true) (hc : z.cls = y.cls) (hi : (Cond.instanceMethod y).before A U = true) (hp : (Cond.privateMethod y).before A U = true) (hy : y.cls ≠ "java/lang/invoke/MethodHandle" ∧ y.cls ≠ "java/lang/invoke/VarHandle") : (Cond.selects C y y).before A U = true := by
  obtain ⟨c2, r2, m2, q1, q2, q3, q4, kP, hkP, hkPi⟩ := Cond.selects_spec hz
  obtain ⟨mk, methM, hnamed, hmethM, hst, hab⟩ := Cond.instanceMethod_spec hi
  have e1 := findClass_of_methodNamed q3
  have e2 := findClass_of_methodNamed hnamed
  rw [hc] at e1
  have e3 : m2.cls = mk.cls := Option.some.inj (e1.symm.trans e2)
  rw [e3] at hkP
  have hf := State.methodFound?_of_named hnamed hy
  have hs := selectMethod_private (p := {}) (c := c2) hmethM (Cond.privateMethod_at hp mk methM hnamed hmethM)
  simp only [Cond.before, Cond.holds, Cond.value, q1, hf, hnamed, hs, hkP]
  simp [hkPi]
end Z18
