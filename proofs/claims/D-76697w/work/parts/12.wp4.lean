set_option maxRecDepth 100000
/-- a reference that may be cast: null, or an object of one of these classes -/
def zCa (hp : zHp) (r : Option Nat) (S : List Nat) : Prop := ∀ a, r = some a → ∃ (ci : Nat) (fs : List Value), hp a = some (.inr (ci, fs)) ∧ ci ∈ S
def zCa1 (hp : zHp) (r : Option Nat) (S : List Nat) : Prop := ∃ (a ci : Nat) (fs : List Value), r = some a ∧ hp a = some (.inr (ci, fs)) ∧ ci ∈ S
def zCw (nm : String) (ci : Nat) : Prop := ∃ (C : String) (T : u_T) (N : Nat), zcl[ci]? = some (C, T, N) ∧ (Cond.castable C nm ∈ lw_tbl ∨ C = nm)
/-- an array of a plain kind by its class number -/
def zCA (cA : ClassId) (hp : zHp) (r : Option Nat) : Prop := ∀ a, r = some a → ∃ x, hp a = some (.inl (cA, x))
section ZV
variable {p : Program} {l : Launch} {e : Env} {R : Room} {s : State} {m : MethodId} {args : Array Value} {below : List Frame} {meth : Method} {c : Code} {H : Heap} {locs : List Loc} {kc ks : Nat} {Q : State → Prop}
variable {cc : ByteArray} {pc : Nat} {ls : Array Slot} {rest : List Value} {g : zG} {own : String} {nL : Nat} {hp hp' : zHp} {nx : Nat} {a : Nat} {r : Option Nat}
theorem zw_gets (hk : zK p s m args meth c g cc own nL) (hS : va_S (zAd g) s.heap H locs) (k : Nat) {C n d : String} {v : Value} {idx : Nat} (hm : (zST g)[k]? = some (C, n, d, v)) (hl : Cond.fieldLink own idx C n d ∈ lw_all) (hdg : decode cc pc = .ok (.getstatic idx, 3))
    (kk : W p l e R s m args below meth c H locs kc ks Q (F0 m (pc + 3) ls (v :: rest))) : W p l e R s m args below meth c H locs kc ks Q (F0 m pc ls rest) :=
  va_gets hk.1.1 hk.1.2.1 (hk.2.2.1.2.1 _ (List.mem_of_getElem? hm)) hS hk.1.2.2.2.1 (hk.1.2.2.2.2 _ hl) (fun _ h => h) hdg kk
theorem zw_ldcS (hk : zK p s m args meth c g cc own nL) (k : Nat) {tx : String} {idx : Nat} (hm : zSC[k]? = some (own, idx, tx)) (hdg : decode cc pc = .ok (.ldc idx, 2))
    (kk : W p l e R s m args below meth c H locs kc ks Q (F0 m (pc + 2) ls (va_rf (some (g.2.2.2.2 k)) :: rest))) : W p l e R s m args below meth c H locs kc ks Q (F0 m pc ls rest) :=
  va_ldcS hk.1.1 hk.1.2.1 hk.1.2.2.2.1 (hk.2.2.1.2.2.1 k _ hm) hdg kk
theorem z_recv (hk : zK p s m args meth c g cc own nL) (hH : zHd g hp H) {ci : Nat} {fs : List Value} {C : String} {T : u_T} {N : Nat} (he : hp a = some (.inr (ci, fs))) (hc : zcl[ci]? = some (C, T, N)) : ∃ cell : Cell, H[a]? = some cell ∧ cell.vm.isStatics = false ∧ s.vm.findClass C = some cell.cls := va_recv hk.2.1 (hH.P he) hc (q0 := 0) rfl
theorem zw_cast (hk : zK p s m args meth c g cc own nL) (hH : zHd g hp H) {nm : String} {idx : Nat} {S : List Nat} (hcl : Cond.classLink own idx nm ∈ lw_all) (hw : zCa hp r S) (hS : ∀ ci ∈ S, zCw nm ci) (hdg : decode cc pc = .ok (.checkcast idx, 3))
    (kk : W p l e R s m args below meth c H locs kc ks Q (F0 m (pc + 3) ls (va_rf r :: rest))) : W p l e R s m args below meth c H locs kc ks Q (F0 m pc ls (va_rf r :: rest)) := by
  cases r with
  | none => exact lv_castN hk.1.1 hk.1.2.1 hdg kk
  | some a =>
    obtain ⟨ci, fs, he, hci⟩ := hw a rfl
    obtain ⟨C, T, N, hc, h | h⟩ := hS ci hci
    · exact va_castY hk.1.1 hk.1.2.1 hk.1.2.2.2.1 (hk.1.2.2.2.2 _ hcl) (hk.2.2.1.1 _ h rfl) (z_recv hk hH he hc) hdg kk
    · subst h
      obtain ⟨cell, h1, h2, h3⟩ := z_recv hk hH he hc
      have hat := (hk.2.1.1 ci _ hc).2
      exact va_castS hk.1.1 hk.1.2.1 hk.1.2.2.2.1 (hk.1.2.2.2.2 _ hcl) hat (z_recv hk hH he hc) hdg kk
theorem zw_castA (hk : zK p s m args meth c g cc own nL) (hH : zHd g hp H) {nm : String} {idx : Nat} (t0 : Nat) {ty : FieldType} (hcl : Cond.classLink own idx nm ∈ lw_all) (ht : (zty g.2.1)[t0]? = some (g.2.1 t0, ty)) (hnm : ∀ (U : State) (cA : ClassId), va_RA U cA ty → U.vm.findClass nm = some cA) (hw : zCA (g.2.1 t0) hp r) (hdg : decode cc pc = .ok (.checkcast idx, 3))
    (kk : W p l e R s m args below meth c H locs kc ks Q (F0 m (pc + 3) ls (va_rf r :: rest))) : W p l e R s m args below meth c H locs kc ks Q (F0 m pc ls (va_rf r :: rest)) := by
  cases r with
  | none => exact lv_castN hk.1.1 hk.1.2.1 hdg kk
  | some a =>
    obtain ⟨x, he⟩ := hw a rfl
    exact va_castA hk.1.1 hk.1.2.1 hk.1.2.2.2.1 (hk.1.2.2.2.2 _ hcl) (hH.P he) 0 rfl (hnm s _ (hk.2.1.2 t0 _ ht).2) hdg kk
theorem zw_inst (hk : zK p s m args meth c g cc own nL) (hH : zHd g hp H) {nm : String} {idx : Nat} {S : List Nat} (hcl : Cond.classLink own idx nm ∈ lw_all) (hw : zCa1 hp r S) (hS : ∀ ci ∈ S, zCw nm ci) (hdg : decode cc pc = .ok (.instanceof idx, 3))
    (kk : W p l e R s m args below meth c H locs kc ks Q (F0 m (pc + 3) ls (.int 1 :: rest))) : W p l e R s m args below meth c H locs kc ks Q (F0 m pc ls (va_rf r :: rest)) := by
  obtain ⟨a, ci, fs, er, he, hci⟩ := hw
  subst er
  obtain ⟨C, T, N, hc, h | h⟩ := hS ci hci
  · exact va_instY hk.1.1 hk.1.2.1 hk.1.2.2.2.1 (hk.1.2.2.2.2 _ hcl) (hk.2.2.1.1 _ h rfl) (z_recv hk hH he hc) hdg kk
  · subst h
    obtain ⟨cell, h1, h2, h3⟩ := z_recv hk hH he hc
    have hat := (hk.2.1.1 ci _ hc).2
    exact va_instS hk.1.1 hk.1.2.1 hk.1.2.2.2.1 (hk.1.2.2.2.2 _ hcl) hat (z_recv hk hH he hc) hdg kk
theorem zw_aast (hk : zK p s m args meth c g cc own nL) (hH : zHd g hp H) (hz : H.size = nx) (hS : va_S (zAd g) s.heap H locs) (t0 : Nat) {E : String} {n : Nat} {f : Nat → Option Nat} {i : Int32} {v : Option Nat} {S : List Nat} (er : r = some a) (he : hp a = some (.inl (g.2.1 t0, n, .inr (.inr (.inr (.inr f)))))) (ht : (zty g.2.1)[t0]? = some (g.2.1 t0, .object E)) (hin : vp_in i n) (hA : zB g ≤ a) (hv : zCa hp v S) (hcw : ∀ ci ∈ S, zCw E ci) (eh : hp' = va_up hp a (some (.inl (g.2.1 t0, n, .inr (.inr (.inr (.inr (va_up f i.toNatClampNeg v)))))))) (hdg : decode cc pc = .ok (.aastore, 1))
    (kk : ∀ (H1 : Heap) (locs1 : List Loc), zHd g hp' H1 → H1.size = nx → va_S (zAd g) s.heap H1 locs1 → W p l e R s m args below meth c H1 locs1 kc ks Q (F0 m (pc + 1) ls rest)) : W p l e R s m args below meth c H locs kc ks Q (F0 m pc ls (va_rf v :: .int i :: va_rf r :: rest)) := by
  subst er
  subst eh
  have hlt : i.toNatClampNeg < n := Nat.not_le.mp fun q => hin (Or.inr q)
  have h0 : ¬ i < 0 := fun q => hin (Or.inl q)
  cases v with
  | none =>
    refine va_WaastN (C := E) hk.1.1 hk.1.2.1 (hH a _ he) ((hk.2.1.2 t0 _ ht).1 n (fun j => va_rf (f j))) (fun h => by cases h) (by show ¬ (i < 0 ∨ (arrV _ _ _).slots.size ≤ _); rw [arrV_size]; exact hin) rfl rfl hdg fun H1 e z oq => ?_
    refine kk H1 _ (hH.set ?_ oq) (z.trans hz) (hS.put z oq hA)
    show H1[a]? = some (vp_cell _ _)
    rw [e]
    rw [vp_cell_q, vp_cell_q, arrV_store]
    congr 2
    funext q
    by_cases hq : q = i.toNatClampNeg
    · subst hq
      simp [updV, va_up, va_rf]
    · simp [updV, va_up, hq]
  | some v =>
    obtain ⟨ci, vs, hvv, hci⟩ := hv v rfl
    obtain ⟨C, T, N, hc, hcx⟩ := hcw ci hci
    obtain ⟨r', hr', cellV, g1, g2, g3, -⟩ := hH v _ hvv
    have hcls := (hk.2.1.1 ci _ hc).2
    obtain ⟨kA, comp, k1, k2, k3, -⟩ := (hk.2.1.2 t0 _ ht).2
    obtain ⟨kE, hkE, -⟩ := Vm.findClass_spec k3
    obtain ⟨kC, hkC, -⟩ := hcls.2
    have hasg : s.vm.assignable (g.1.1 ci) comp = true := by
      rcases hcx with h | h
      · obtain ⟨c0, t1, f1, f2, f3⟩ := Cond.castable_spec (va_Nw.use (A := args) rfl (hk.2.2.1.1 _ h rfl))
        cases hcls.1.symm.trans f1
        cases k3.symm.trans f2
        exact f3
      · subst h
        have : comp = g.1.1 ci := Option.some.inj (k3.symm.trans hcls.1)
        subst this
        exact va_assign hcls
    refine W.aast hk.1.1 hk.1.2.1 (hH a _ he) (fun q h => by cases h) (fun h => by cases h) k1 k2 rfl hkE ⟨h0, by show _ < (arrV _ _ _).slots.size; rw [arrV_size]; exact hlt⟩ g1 (fun q h => by rw [g3] at h; cases h) (by rw [g2]; exact hkC) (by rw [g2]; exact hasg) rfl rfl hdg fun H1 e z oq => ?_
    refine kk H1 _ (hH.set ?_ oq) (z.trans hz) (hS.put z oq hA)
    show H1[a]? = some (vp_cell _ _)
    rw [e]
    rw [vp_cell_q, vp_cell_q, arrV_store]
    congr 2
    funext q
    by_cases hq : q = i.toNatClampNeg
    · subst hq
      simp [updV, va_up, va_rf]
    · simp [updV, va_up, hq]
theorem zr_newq (hk : zK p s m args meth c g cc own nL) (hH : zHd g hp H) (hz : H.size = nx) (hS : va_S (zAd g) s.heap H locs) (t0 : Nat) {C : String} {idx : Nat} (hcl : Cond.classLink own idx C ∈ lw_all) (hover : C ∈ zAO) (ht : (zty g.2.1)[t0]? = some (g.2.1 t0, .object C)) {n : Int32} (hn : ¬ n < 0) (hbytes : n.toNatClampNeg ≤ 65536) (hcells : kc + 1 ≤ R.cells) (hslots : ks + n.toNatClampNeg ≤ R.slots) (hdg : decode cc pc = .ok (.anewarray idx, 3))
    (kk : ∀ H1 : Heap, zHd g (va_up hp nx (some (.inl (g.2.1 t0, n.toNatClampNeg, .inr (.inr (.inr (.inr (fun _ => none)))))))) H1 → H1.size = nx + 1 → va_S (zAd g) s.heap H1 locs → (∀ (a : Nat) (e : va_E), hp a = some e → a < nx) → zB g ≤ nx → W p l e R s m args below meth c H1 locs (kc + 1) (ks + n.toNatClampNeg) Q (F0 m (pc + 3) ls (.ref nx :: rest))) : W p l e R s m args below meth c H locs kc ks Q (F0 m pc ls (.int n :: rest)) := by
  have hlt := hH.lt hz
  refine W.anew hk.1.1 hk.1.2.1 hk.1.2.2.2.1 (hk.1.2.2.2.2 _ hcl) (va_AO.use (hk.2.2.1.2.2.2.1 _ hover)) rfl hdg rfl hn (by omega) hcells hslots fun cA kA comp f1 f2 f3 f4 => ?_
  obtain ⟨kA', comp', k1, k2, k3, k4⟩ := (hk.2.1.2 t0 _ ht).2
  have hcA : cA = g.2.1 t0 := Option.some.inj (f1.symm.trans k4)
  subst hcA
  subst hz
  generalize hH1 : H.push ({ cls := g.2.1 t0, slots := Array.replicate n.toNatClampNeg .null, vm := .none } : Cell) = H1
  have z1 : H1.size = H.size + 1 := by rw [← hH1, Array.size_push]
  have e1 : H1[H.size]? = some (arrV (g.2.1 t0) n.toNatClampNeg (fun _ => .null)) := by rw [← hH1, Array.getElem?_push_size, ← arrV_new]
  have o1 : ∀ q : Nat, q < H.size → H1[q]? = H[q]? := fun q hq => by rw [← hH1, Array.getElem?_push, if_neg (Nat.ne_of_lt hq)]
  refine kk H1 (hH.push rfl ?_ o1) z1 ⟨by rw [z1]; exact Nat.le_succ_of_le hS.1, fun x h4 h5 => (o1 x (Nat.lt_of_lt_of_le h4 hS.1)).trans (hS.2.1 x h4 h5), hS.2.2⟩ hlt (Nat.le_trans hk.2.2.2.1 hS.1)
  show H1[H.size]? = some (vp_cell _ _)
  rw [vp_cell_q]
  exact e1
theorem zw_d2l (hk : zK p s m args meth c g cc own nL) (hl : ls.size = nL) {idx : Nat} {b : UInt64} (h1 : Cond.methodLink own idx ⟨"java/lang/Double", "doubleToRawLongBits", "(D)J"⟩ ∈ lw_all) (h2 : Cond.native ⟨"java/lang/Double", "doubleToRawLongBits", "(D)J"⟩ ∈ lw_all) (h3 : Cond.static ⟨"java/lang/Double", "doubleToRawLongBits", "(D)J"⟩ ∈ lw_all) (h4 : Cond.initialized "java/lang/Double" ∈ lw_all) (hf : 1 ≤ R.frames) (hlo : (rest.map fun v => v.category).sum + 15 ≤ R.locals) (hdg : decode cc pc = .ok (.invokestatic idx, 3))
    (kk : W p l e R s m args below meth c H locs kc ks Q (F0 m (pc + 3) ls (.long b.toInt64 :: rest))) : W p l e R s m args below meth c H locs kc ks Q (F0 m pc ls (.double b :: rest)) :=
  vn_d2l hk.1.1 hk.1.2.1 (hk.1.2.2.1.trans hl.symm) hk.1.2.2.2.1 (hk.1.2.2.2.2 _ h1) (hk.1.2.2.2.2 _ h2) (hk.1.2.2.2.2 _ h3) (hk.1.2.2.2.2 _ h4) hf hlo hdg kk
end ZV
