set_option maxRecDepth 100000
/-- the contract of a method with handlers that throws nothing -/
def zMtW (l : Launch) (g : zG) (y : MethodName) (cc : ByteArray) (L : Nat) (ret : Option FieldType) (hh : List (Nat × Nat × Nat × Nat)) (d mc ms : Nat) (av : List Value) (hp : zHp) (nx : Nat) (Q : Array Value → State → Outcome → State → Prop) : Prop :=
  Met l y (wsW_ y cc L ret hh) (zrm d mc ms) (va_Pc av (zSt g hp nx)) Q mc ms (zAd g)
theorem z_startW {l : Launch} {cc : ByteArray} {g : zG} {hp : zHp} {nx : Nat} {y : MethodName} {L : Nat} {ret : Option FieldType} {hh : List (Nat × Nat × Nat × Nat)} {d mc ms : Nat} {av : List Value} {Qc : Array Value → State → Outcome → State → Prop} (hy : plainName y.cls = true) (hL : (lg_sl av).length ≤ L)
    (body : ∀ (p : Program) (e : Env) (s : State) (m : MethodId) (below : List Frame) (meth : Method) (c : Code), zK p s m av.toArray meth c g cc y.cls L → meth.sig.returnType = ret → meth.name = y.name → zHd g hp s.heap → s.heap.size = nx → ∀ ls : Array Slot, lv_has ls L (lv_args 0 av) →
      W p l e (zrm d mc ms) s m av.toArray below meth c s.heap [] 0 0 (MQ below Qc av.toArray s mc ms (zAd g)) (F0 m 0 ls [])) : zMtW l g y cc L ret hh d mc ms av hp nx Qc := by
  unfold zMtW Met
  refine MetFree.of_bodyS (code := cc) (maxLocals := L) (ret := ret) hy ?_ ?_
  · intro args s m h hn
    obtain ⟨m', meth, c, h0, h1, h2, h3, h4, h5, h6, h7, -⟩ := Cond.codeWith_spec (atoms_spec (ws := wsW_ y cc L ret hh) h _ List.mem_cons_self)
    cases hn.symm.trans h0
    exact ⟨meth, c, h1, h2, h3, h4, h6, h7⟩
  · intro p e s m args below meth c s₁ B hml hv _
    obtain ⟨rfl, hH, hz, hK, hR, hb⟩ := hv
    have hh0 : s₁.heap = s.heap := by rw [B.state]; rfl
    have hts := atoms_spec (ws := wsW_ y cc L ret hh) B.pre
    have hts : ∀ w ∈ lw_all, w.before _ s = true := fun w h => hts w (List.mem_cons_of_mem _ h)
    have hown : s.vm.findClass y.cls = some m.cls := findClass_of_methodNamed B.named
    have hin : meth.name = y.name := (name_of_methodNamed B.named B.method).1
    have hl := lv_entry av (n := L) hL
    have hw := body p e s m below meth c ⟨⟨B.exec, B.bytes, hml, hown, hts⟩, hK, hR, by rw [hz]; exact hb, B.notSynchronized⟩ B.returns hin hH hz _ hl
    rw [← lg_entry_eq] at hw
    obtain ⟨t, a1, o, b1, b2, b3⟩ := hw s₁ hh0 (Stand.of_body B)
    exact ⟨t, o, a1, b1, b2, ⟨b3.1, b3.2⟩⟩
section ZH
variable {p : Program} {l : Launch} {e : Env} {R : Room} {s : State} {m : MethodId} {args : Array Value} {below : List Frame} {meth : Method} {c : Code} {H : Heap} {locs : List Loc} {kc ks : Nat} {Q : State → Prop}
variable {cc : ByteArray} {pc : Nat} {ls : Array Slot} {rest : List Value} {g : zG} {own : String} {nL : Nat} {hp hp' : zHp} {nx : Nat} {a : Nat} {r : Option Nat}
variable {y : MethodName} {c2 : ByteArray} {L d mc ms n idx : Nat} {ret : Option FieldType} {hh : List (Nat × Nat × Nat × Nat)} {Qc : Array Value → State → Outcome → State → Prop} {C : String} {b0 : Nat} {As st0 : List Value}
theorem zw_runVW (hk : zK p s m args meth c g cc own nL) (hH : zHd g hp H) (hz : H.size = nx) (hS : va_S (zAd g) s.heap H locs) (hl : ls.size = nL) (er : r = some b0) (hM : zMtW l g y c2 L ret hh d mc ms (.ref b0 :: As) hp nx Qc) (cw : vx_CVW R s args own C idx y c2 L ret hh (wsW_ y c2 L ret hh) (zrm d mc ms) mc ms n) {ci : Nat} {fs : List Value} {T : u_T} {N : Nat} (hr : hp b0 = some (.inr (ci, fs))) (hc : zcl[ci]? = some (C, T, N))
    (hn : As.length = n) (hst : st0 = As.reverse ++ va_rf r :: rest) (hW : (rest.map fun v => v.category).sum ≤ 8) (hdg : decode cc pc = .ok (.invokevirtual idx, 3)) (hf : kc + mc ≤ R.cells ∧ ks + ms ≤ R.slots) : va_Run p l e R s m args below meth c H locs kc ks mc ms (F0 m pc ls st0) rest (Qc (Value.ref b0 :: As).toArray) (zAd g) := by
  subst er
  exact vx_runVW hk.1 hM cw ⟨zSt.blind, va_recv hk.2.1 (hH.P hr) hc (q0 := 0) rfl, fun U hU hW' => ⟨rfl, hk.st hH hz hS hU hW'⟩⟩ rfl hn hl hst (lv_room hW) hdg hf
end ZH
theorem z_ldcSw0 {p : Program} {l : Launch} {e : Env} {R : Room} {s : State} {m : MethodId} {args : Array Value} {below : List Frame} {meth : Method} {c : Code} {T : State} {locs : List Loc} {cells slots : Nat}
    (X : Stand p l e R s m args below meth c T locs cells slots) (hexec : p.tables.exec = Jvm.exec) {own text : String} {index : Nat} {a : Addr} (hown : s.vm.findClass own = some m.cls)
    (hconst : (Cond.stringRef own index text).before args s = true) (hev : (Term.string own index).eval args s none [] s = some (.ref a)) {g : JFrame} (hg : g.method = m) (hdg : decode c.code g.pc = .ok (.ldc_w index, 3)) :
    ∀ target, Steps p.tables e below (T.setTop { g with pc := g.pc + 3, stack := .ref a :: g.stack }) target → Steps p.tables e below (T.setTop g) target := by
  obtain ⟨k, cf, i, a', hk, hcf, hcp, -, hr, hev'⟩ := Cond.stringRef_spec hown hconst
  cases hev.symm.trans hev'
  obtain ⟨k', hk', he⟩ := X.warmed.alike.2.2 _ _ hk
  have hr' : k'.resolved[index]? = some (some (.string a)) := by
    rcases X.warmed.entry hk hk' index with h | ⟨h, -⟩
    · rw [h]; exact hr
    · rw [hr] at h; cases h
  intro target hrest
  subst hg
  jvm_step X.here [hexec, hdg, ldc_w.wp_string (e := e) (s := T) (f := g) X.here.top hk' (by rw [he]; exact hcf) hcp hr']
  exact hrest
section ZI
variable {p : Program} {l : Launch} {e : Env} {R : Room} {s : State} {m : MethodId} {args : Array Value} {below : List Frame} {meth : Method} {c : Code} {H : Heap} {locs : List Loc} {kc ks : Nat} {Q : State → Prop}
variable {cc : ByteArray} {pc : Nat} {ls : Array Slot} {rest : List Value} {g : zG} {own : String} {nL : Nat} {hp hp' : zHp} {nx : Nat} {a : Nat} {r : Option Nat}
theorem zw_ldcSw (hk : zK p s m args meth c g cc own nL) (k : Nat) {tx : String} {idx : Nat} (hm : zSC[k]? = some (own, idx, tx)) (hdg : decode cc pc = .ok (.ldc_w idx, 3))
    (kk : W p l e R s m args below meth c H locs kc ks Q (F0 m (pc + 3) ls (va_rf (some (g.2.2.2.2 k)) :: rest))) : W p l e R s m args below meth c H locs kc ks Q (F0 m pc ls rest) := by
  have hZ := hk.2.2.1.2.2.1 k _ hm
  intro T hT X
  obtain ⟨t, a1, b1⟩ := kk T hT X
  exact ⟨t, z_ldcSw0 X hk.1.1 hk.1.2.2.2.1 (text := tx) (a := g.2.2.2.2 k) hZ.1 hZ.2 (g := F0 m pc ls rest) rfl (by rw [hk.1.2.1]; exact hdg) t a1, b1⟩
end ZI
theorem zin_int (c : ClassId) (M : Nat) : Jvm.Free.Multi.innerC c M (defaultValue .int) = vp_cell c (M, .inl (fun _ => 0)) := by rw [vp_cell_i]; exact arrV_new _ _ _
theorem zin_boolean (c : ClassId) (M : Nat) : Jvm.Free.Multi.innerC c M (defaultValue .boolean) = vp_cell c (M, .inl (fun _ => 0)) := by rw [vp_cell_i]; exact arrV_new _ _ _
theorem zin_double (c : ClassId) (M : Nat) : Jvm.Free.Multi.innerC c M (defaultValue .double) = vp_cell c (M, .inr (.inr (.inr (.inl (fun _ => 0))))) := by rw [vp_cell_d]; exact arrV_new _ _ _
section ZJ
variable {p : Program} {l : Launch} {e : Env} {R : Room} {s : State} {m : MethodId} {args : Array Value} {below : List Frame} {meth : Method} {c : Code} {H : Heap} {locs : List Loc} {kc ks : Nat} {Q : State → Prop}
variable {cc : ByteArray} {pc : Nat} {ls : Array Slot} {rest : List Value} {g : zG} {own : String} {nL : Nat} {hp hp' : zHp} {nx : Nat} {a : Nat} {r : Option Nat}
theorem zx_mnew (hk : zK p s m args meth c g cc own nL) (hH : zHd g hp H) (hz : H.size = nx) (hS : va_S (zAd g) s.heap H locs) (tO tI : Nat) {ty : FieldType} {idx : Nat} {nm : String} {x : (Nat → Int32) ⊕ (Nat → Int64) ⊕ (Nat → UInt32) ⊕ (Nat → UInt64) ⊕ (Nat → Option Nat)} (hcl : Cond.classLink own idx nm ∈ lw_all) (hnm : nm = "[" ++ (FieldType.array ty).toString) (hover : ty ∈ zAA) (harr : Cond.arrayClass ty ∈ lw_all) (htO : (zty g.2.1)[tO]? = some (g.2.1 tO, .array ty)) (htI : (zty g.2.1)[tI]? = some (g.2.1 tI, ty)) (hra : ∀ (U : State) (cA : ClassId), va_RA U cA ty → U.vm.findClass ("[" ++ ty.toString) = some cA) (hts : (FieldType.array ty).toString = "[" ++ ty.toString)
    {n k : Int32} (hx : ∀ (c : ClassId) (M : Nat), Jvm.Free.Multi.innerC c M (defaultValue ty) = vp_cell c (M, x)) (hn : ¬ n < 0) (hkk : ¬ k < 0) (hn1 : n.toNatClampNeg ≤ 65536) (hk1 : k.toNatClampNeg ≤ 65536) (hcb : componentBytes ty ≤ 8) (hdf : fits ty (defaultValue ty) = true) (hdd : (defaultValue ty).isDefault = true) (hcells : kc + (1 + n.toNatClampNeg) ≤ R.cells) (hslots : ks + (n.toNatClampNeg + n.toNatClampNeg * k.toNatClampNeg) ≤ R.slots) (hdg : decode cc pc = .ok (.multianewarray idx 2, 4))
    (kk : ∀ H1 : Heap, zHd g (zmHp hp nx (g.2.1 tO) (g.2.1 tI) n.toNatClampNeg k.toNatClampNeg x) H1 → H1.size = nx + 1 + n.toNatClampNeg → va_S (zAd g) s.heap H1 locs → (∀ (a : Nat) (e : va_E), hp a = some e → a < nx) → zB g ≤ nx → W p l e R s m args below meth c H1 locs (kc + 1 + n.toNatClampNeg) (ks + n.toNatClampNeg + n.toNatClampNeg * k.toNatClampNeg) Q (F0 m (pc + 4) ls (va_rf (some nx) :: rest))) : W p l e R s m args below meth c H locs kc ks Q (F0 m pc ls (.int k :: .int n :: rest)) :=
  zr_mnew hk hH hz hS tO tI hcl hnm (hk.2.2.1.2.2.2.2.2.1 ty hover) harr htO htI hra hts hx hn hkk hn1 hk1 hcb hdf hdd hcells hslots hdg kk
end ZJ
