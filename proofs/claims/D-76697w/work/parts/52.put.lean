set_option maxRecDepth 100000
/-! a field that a superclass declares is put -/
section Z19
variable {p : Program} {l : Launch} {e : Env} {R : Room} {s : State} {m : MethodId} {args : Array Value} {below : List Frame} {meth : Method} {c : Code} {H : Heap} {locs : List Loc} {kc ks : Nat} {Q : State → Prop}
variable {cc : ByteArray} {pc : Nat} {ls : Array Slot} {rest : List Value} {g : zG} {own : String} {nL : Nat} {hp hp' : zHp} {nx : Nat} {a : Nat} {r : Option Nat}
def zFpS (own : String) (idx ci k : Nat) (ty : FieldType) : Prop := ∃ (C : String) (T : u_T) (N : Nat) (ref : String), zcl[ci]? = some (C, T, N) ∧ k < N ∧ Cond.fieldLink own idx ref (T k).2.1 (T k).2.2.1 ∈ lw_all ∧ Cond.sameField ref (T k).1 (T k).2.1 (T k).2.2.1 ∈ lw_all ∧ (T k).2.2.2 = false ∧ parseFieldDescriptor (T k).2.2.1 = some ty
theorem zw_putS (hk : zK p s m args meth c g cc own nL) (hH : zHd g hp H) (hz : H.size = nx) (hS : va_S (zAd g) s.heap H locs) {ci k idx : Nat} {fs : List Value} {v : Value} {ty : FieldType} (er : r = some a) (he : hp a = some (.inr (ci, fs))) (hA : zB g ≤ a) (hl : k < fs.length) (eh : hp' = va_up hp a (some (.inr (ci, fs.set k v)))) (hf : zFpS own idx ci k ty) (hn : narrow ty v = v) (hfit : fits ty v = true) (hdg : decode cc pc = .ok (.putfield idx, 3))
    (kk : ∀ (H1 : Heap) (locs1 : List Loc), zHd g hp' H1 → H1.size = nx → va_S (zAd g) s.heap H1 locs1 → W p l e R s m args below meth c H1 locs1 kc ks Q (F0 m (pc + 3) ls rest)) : W p l e R s m args below meth c H locs kc ks Q (F0 m pc ls (v :: va_rf r :: rest)) := by
  subst er
  subst eh
  obtain ⟨C, T, N, ref, hc, hkN, h3, h4, hfin, hd⟩ := hf
  obtain ⟨⟨hexec, hb, hml, hown, hts⟩, hK, -⟩ := hk
  have hin := zcl_ok ci _ hc
  obtain ⟨ty0, hty, hnm⟩ := zcl_ty ci _ hc
  have hap := zva_apart hts hin ty0 hty hnm hK hc
  obtain ⟨r, h1, cell, q1, q2, q3, q4⟩ := hH a _ he
  have hr : r = (C, T, N) := Option.some.inj (h1.symm.trans hc)
  subst hr
  obtain ⟨hSl, hfc, kC, hkC, hkind⟩ := hK.1 ci _ hc
  obtain ⟨cf, kf, fi, f, hi, hsl⟩ := hSl k hkN
  have hlay := hts _ (hin _ (u_in_lay hkN))
  unfold u_lay at hlay
  rw [if_neg (by rw [hfin]; decide)] at hlay
  have hst := (u_facts hfc hkC (u_lays hts hin hkN) hi).1
  have h6 := u_store hfc hkC hkind hlay hi hd hn hfit
  refine W.putK hexec hb (f := f) ⟨hown, hts _ h3, ⟨_, _, _, z_sameF (hts _ h4) _ hi⟩, hst⟩ (by rw [q2]; exact h6) q1 q3 (by rw [hsl]; exact k2_hasslot (q4 k hkN)) rfl rfl hdg fun H' e1 e2 e3 => ?_
  rw [hsl] at e1 ⊢
  exact kk H' _ (hH.set ⟨_, hc, t_OB.to (V := updV (vp_V fs) k v) ⟨_, e1, q2, q3, t_set q4 hap hkN v⟩ (fun j _ => vp_updV_set hl v j)⟩ e3) (e2.trans hz) (hS.put e2 e3 hA)
end Z19
section Z19b
variable {p : Program} {l : Launch} {e : Env} {R : Room} {s : State} {m : MethodId} {args : Array Value} {below : List Frame} {meth : Method} {c : Code} {H : Heap} {locs : List Loc} {kc ks : Nat} {Q : State → Prop}
variable {cc : ByteArray} {pc : Nat} {ls : Array Slot} {rest : List Value} {g : zG} {own : String} {nL : Nat} {hp hp' : zHp} {nx : Nat} {a : Nat} {r : Option Nat}
theorem zw_getsq (hk : zK p s m args meth c g cc own nL) (hS : va_S (zAd g) s.heap H locs) (k : Nat) {C n d : String} {idx : Nat} (hm : zZQ[k]? = some (C, n, d)) (hl : Cond.fieldLink own idx C n d ∈ lw_all) (hdg : decode cc pc = .ok (.getstatic idx, 3))
    (kk : ∀ r : Option Nat, W p l e R s m args below meth c H locs kc ks Q (F0 m (pc + 3) ls (va_rf r :: rest))) : W p l e R s m args below meth c H locs kc ks Q (F0 m pc ls rest) := by
  have h := (hk.2.2.1.2.2.2.2.2.2.2 _ (List.mem_of_getElem? hm)).1
  rcases h with h | ⟨b, h⟩
  · exact va_gets hk.1.1 hk.1.2.1 h hS hk.1.2.2.2.1 (hk.1.2.2.2.2 _ hl) (fun _ h => h) hdg (kk none)
  · exact va_gets hk.1.1 hk.1.2.1 h hS hk.1.2.2.2.1 (hk.1.2.2.2.2 _ hl) (fun _ h => h) hdg (kk (some b))
def zNm (j : Nat) : String := if j = 0 then "[I" else if j = 1 then "[D" else if j = 2 then "[B" else "[F"
theorem z_arN (hk : zK p s m args meth c g cc own nL) {j : Nat} (hj : j = 0 ∨ j = 1 ∨ j = 2 ∨ j = 5) : s.vm.findClass (zNm j) = some (g.2.1 j) := by
  rcases hj with rfl | rfl | rfl | rfl
  · exact (hk.2.1.2 0 _ rfl).2
  · exact (hk.2.1.2 1 _ rfl).2
  · exact (hk.2.1.2 2 _ rfl).2
  · exact (hk.2.1.2 5 _ rfl).2
theorem z_arH (hH : zHd g hp H) {cA : ClassId} {x : vp_A} (he : hp a = some (.inl (cA, x))) : ∃ cell : Cell, H[a]? = some cell ∧ cell.vm.isStatics = false ∧ cell.cls = cA := by
  have h := hH a _ he
  refine ⟨vp_cell cA x, h, ?_, ?_⟩ <;> (obtain ⟨n, f | f | f | f | f⟩ := x <;> rfl)
def zIA (g : zG) (hp : zHp) (r : Option Nat) (t0 : Nat) (K : Int32 → Prop) : Prop := ∃ (a : Nat) (x : vp_A), r = some a ∧ ((hp a = some (.inl (g.2.1 t0, x)) ∧ K 1) ∨ ∃ j, (j = 0 ∨ j = 1 ∨ j = 2 ∨ j = 5) ∧ j ≠ t0 ∧ hp a = some (.inl (g.2.1 j, x)) ∧ K 0)
theorem z_NCm {i j : Nat} (hi : i = 0 ∨ i = 1 ∨ i = 2 ∨ i = 5) (hj : j = 0 ∨ j = 1 ∨ j = 2 ∨ j = 5) (h : i ≠ j) : (zNm i, zNm j) ∈ zNC := by
  rcases hi with rfl | rfl | rfl | rfl <;> rcases hj with rfl | rfl | rfl | rfl <;> first | exact absurd rfl h | simp [zNC, zNm]
theorem zw_instA (hk : zK p s m args meth c g cc own nL) (hH : zHd g hp H) (t0 : Nat) (ht : t0 = 0 ∨ t0 = 1 ∨ t0 = 2 ∨ t0 = 5) {idx : Nat} (hcl : Cond.classLink own idx (zNm t0) ∈ lw_all) {K : Int32 → Prop} (hw : zIA g hp r t0 K) (hdg : decode cc pc = .ok (.instanceof idx, 3))
    (kk : ∀ x : Int32, K x → W p l e R s m args below meth c H locs kc ks Q (F0 m (pc + 3) ls (.int x :: rest))) : W p l e R s m args below meth c H locs kc ks Q (F0 m pc ls (va_rf r :: rest)) := by
  obtain ⟨a, x, rfl, ⟨he, hK⟩ | ⟨j, hj, hjt, he, hK⟩⟩ := hw
  · obtain ⟨cell, h1, h2, h3⟩ := z_arH hH he
    exact va_instE hk.1.1 hk.1.2.1 hk.1.2.2.2.1 (hk.1.2.2.2.2 _ hcl) ⟨cell, h1, h2, by rw [h3]; exact z_arN hk ht⟩ hdg (kk 1 hK)
  · obtain ⟨cell, h1, h2, h3⟩ := z_arH hH he
    exact va_instNo hk.1.1 hk.1.2.1 hk.1.2.2.2.1 (hk.1.2.2.2.2 _ hcl) (hk.2.2.1.2.2.2.2.2.2.1 _ (z_NCm hj ht hjt)) ⟨cell, h1, h2, by rw [h3]; exact z_arN hk hj⟩ hdg (kk 0 hK)
end Z19b
