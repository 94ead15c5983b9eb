set_option maxRecDepth 100000
section ZN
variable {p : Program} {l : Launch} {e : Env} {R : Room} {s : State} {m : MethodId} {args : Array Value} {below : List Frame} {meth : Method} {c : Code} {H : Heap} {locs : List Loc} {kc ks : Nat} {Q : State → Prop}
variable {cc : ByteArray} {pc : Nat} {ls : Array Slot} {rest : List Value} {g : zG} {own : String} {nL : Nat} {hp hp' : zHp} {nx : Nat} {a : Nat} {r : Option Nat}
def zFkN (own : String) (idx ci k : Nat) : Prop := ∃ (C : String) (T : u_T) (N : Nat) (host : String), zcl[ci]? = some (C, T, N) ∧ k < N ∧ Cond.fieldLinkNest own idx (T k).1 (T k).2.1 (T k).2.2.1 host ∈ lw_tbl
theorem zw_getN (hk : zK p s m args meth c g cc own nL) (hH : zHd g hp H) {ci k idx : Nat} {fs : List Value} {v : Value} (er : r = some a) (he : hp a = some (.inr (ci, fs))) (hv : fs[k]? = some v) (hf : zFkN own idx ci k) (hdg : decode cc pc = .ok (.getfield idx, 3))
    (kk : W p l e R s m args below meth c H locs kc ks Q (F0 m (pc + 3) ls (v :: rest))) : W p l e R s m args below meth c H locs kc ks Q (F0 m pc ls (va_rf r :: rest)) := by
  subst er
  obtain ⟨C, T, N, host, h1, h2, h3⟩ := hf
  have hro := hk.2.2.1.1
  obtain ⟨⟨hx, hb, hml, hown, hts⟩, hK, -⟩ := hk
  exact va_getN hx hb hts (zcl_ok ci _ h1) hown hK (hH.P he) 0 rfl h1 k h2 (va_Nw.use rfl (hro _ h3 rfl)) (fun _ h => h) hv hdg kk
def zFpN (own : String) (idx ci k : Nat) (ty : FieldType) : Prop := ∃ (C : String) (T : u_T) (N : Nat) (host : String), zcl[ci]? = some (C, T, N) ∧ k < N ∧ Cond.fieldLinkNest own idx (T k).1 (T k).2.1 (T k).2.2.1 host ∈ lw_tbl ∧ (T k).2.2.2 = false ∧ parseFieldDescriptor (T k).2.2.1 = some ty
theorem zw_putN (hk : zK p s m args meth c g cc own nL) (hH : zHd g hp H) (hz : H.size = nx) (hS : va_S (zAd g) s.heap H locs) {ci k idx : Nat} {fs : List Value} {v : Value} {ty : FieldType} (er : r = some a) (he : hp a = some (.inr (ci, fs))) (hA : zB g ≤ a) (hl : k < fs.length) (eh : hp' = va_up hp a (some (.inr (ci, fs.set k v)))) (hf : zFpN own idx ci k ty) (hn : narrow ty v = v) (hfit : fits ty v = true) (hdg : decode cc pc = .ok (.putfield idx, 3))
    (kk : ∀ (H1 : Heap) (locs1 : List Loc), zHd g hp' H1 → H1.size = nx → va_S (zAd g) s.heap H1 locs1 → W p l e R s m args below meth c H1 locs1 kc ks Q (F0 m (pc + 3) ls rest)) : W p l e R s m args below meth c H locs kc ks Q (F0 m pc ls (v :: va_rf r :: rest)) := by
  subst er
  subst eh
  obtain ⟨C, T, N, host, hc, hkN, h3, hfin, hd⟩ := hf
  have hro := hk.2.2.1.1
  obtain ⟨⟨hexec, hb, hml, hown, hts⟩, hK, -⟩ := hk
  have hin := zcl_ok ci _ hc
  obtain ⟨ty0, hty, hnm⟩ := zcl_ty ci _ hc
  have hap := zva_apart hts hin ty0 hty hnm hK hc
  obtain ⟨r, h1, cell, q1, q2, q3, q4⟩ := hH a _ he
  have hr : r = (C, T, N) := Option.some.inj (h1.symm.trans hc)
  subst hr
  obtain ⟨hSl, hfc, kC, hkC, hkind⟩ := hK.1 ci _ hc
  obtain ⟨cf, kf, fi, f, hi, hsl⟩ := hSl k hkN
  have hlay := hts _ (hin _ (u_in_lay hkN))
  unfold u_lay at hlay
  rw [if_neg (by rw [hfin]; decide)] at hlay
  have hst := (u_facts hfc hkC (u_lays hts hin hkN) hi).1
  have h6 := u_store hfc hkC hkind hlay hi hd hn hfit
  refine va_WputK hexec hb (f := f) hown (va_Nw.use rfl (hro _ h3 rfl)) hi hst (by rw [q2]; exact h6) q1 q3 (by rw [hsl]; exact k2_hasslot (q4 k hkN)) rfl rfl hdg fun H' e1 e2 e3 => ?_
  rw [hsl] at e1 ⊢
  exact kk H' _ (hH.set ⟨_, hc, t_OB.to (V := updV (vp_V fs) k v) ⟨_, e1, q2, q3, t_set q4 hap hkN v⟩ (fun j _ => vp_updV_set hl v j)⟩ e3) (e2.trans hz) (hS.put e2 e3 hA)
end ZN
