set_option maxRecDepth 100000
/-- a field whose place hangs on the class -/
def zptk (g : zG) (hp : zHp) (r : Option Nat) (S : List Nat) (kf : Nat → Nat) (v : Value) (K : zHp → Prop) : Prop := zo hp r S fun a ci fs => zB g ≤ a ∧ kf ci < fs.length ∧ K (va_up hp a (some (.inr (ci, fs.set (kf ci) v))))
theorem zptk_e {g : zG} {hp : zHp} {r : Option Nat} {S : List Nat} {kf : Nat → Nat} {v : Value} {K : zHp → Prop} (h : zptk g hp r S kf v K) : ∃ (a ci : Nat) (fs : List Value) (hp' : zHp), r = some a ∧ hp a = some (.inr (ci, fs)) ∧ ci ∈ S ∧ zB g ≤ a ∧ kf ci < fs.length ∧ hp' = va_up hp a (some (.inr (ci, fs.set (kf ci) v))) ∧ K hp' := by
  obtain ⟨a, ci, fs, h1, h2, h3, h4, h5, h6⟩ := zo_e h
  exact ⟨a, ci, fs, _, h1, h2, h3, h4, h5, rfl, h6⟩
/-- a new array of references -/
def znq (g : zG) (mc ms : Nat) (hp : zHp) (nx kc ks t : Nat) (n : Int32) (K : zHp → Prop) : Prop := ¬ n < 0 ∧ n.toNatClampNeg ≤ 65536 ∧ kc + 1 ≤ mc ∧ ks + n.toNatClampNeg ≤ ms ∧ ((∀ (a : Nat) (e : va_E), hp a = some e → a < nx) → zB g ≤ nx → K (va_up hp nx (some (.inl (g.2.1 t, n.toNatClampNeg, .inr (.inr (.inr (.inr (fun _ => none)))))))))
/-- a new array of arrays: the outer at nx, its rows behind it -/
def zmHp (hp : zHp) (nx : Nat) (cO cI : ClassId) (N M : Nat) (x : (Nat → Int32) ⊕ (Nat → Int64) ⊕ (Nat → UInt32) ⊕ (Nat → UInt64) ⊕ (Nat → Option Nat)) : zHp := fun q => if q < nx then hp q else if q = nx then some (.inl (cO, N, .inr (.inr (.inr (.inr (fun j => some (nx + 1 + j))))))) else if q < nx + 1 + N then some (.inl (cI, M, x)) else hp q
def znm (g : zG) (mc ms : Nat) (hp : zHp) (nx kc ks tO tI : Nat) (n k : Int32) (x : (Nat → Int32) ⊕ (Nat → Int64) ⊕ (Nat → UInt32) ⊕ (Nat → UInt64) ⊕ (Nat → Option Nat)) (K : zHp → Prop) : Prop := ¬ n < 0 ∧ ¬ k < 0 ∧ n.toNatClampNeg ≤ 65536 ∧ k.toNatClampNeg ≤ 65536 ∧ kc + (1 + n.toNatClampNeg) ≤ mc ∧ ks + (n.toNatClampNeg + n.toNatClampNeg * k.toNatClampNeg) ≤ ms ∧ ((∀ (a : Nat) (e : va_E), hp a = some e → a < nx) → zB g ≤ nx → K (zmHp hp nx (g.2.1 tO) (g.2.1 tI) n.toNatClampNeg k.toNatClampNeg x))
theorem z_sameF {args : Array Value} {s : State} {ref owner name desc : String} (h : (Cond.sameField ref owner name desc).before args s = true) : ∀ x, s.fieldFound? owner name desc = some x → s.fieldFound? ref name desc = some x := by
  intro x hx
  cases hr : s.fieldFound? ref name desc with
  | none => simp [Cond.before, Cond.holds, Cond.value, hr] at h
  | some y =>
    obtain ⟨c, k, i, f⟩ := y
    have h2 := Cond.sameField_spec hr h
    rw [hx] at h2
    exact h2.symm
section ZU
variable {p : Program} {l : Launch} {e : Env} {R : Room} {s : State} {m : MethodId} {args : Array Value} {below : List Frame} {meth : Method} {c : Code} {H : Heap} {locs : List Loc} {kc ks : Nat} {Q : State → Prop}
variable {cc : ByteArray} {pc : Nat} {ls : Array Slot} {rest : List Value} {g : zG} {own : String} {nL : Nat} {hp hp' : zHp} {nx : Nat} {a : Nat} {r : Option Nat}
def zFkS (own : String) (idx ci k : Nat) : Prop := ∃ (C : String) (T : u_T) (N : Nat) (ref : String), zcl[ci]? = some (C, T, N) ∧ k < N ∧ Cond.fieldLink own idx ref (T k).2.1 (T k).2.2.1 ∈ lw_all ∧ Cond.sameField ref (T k).1 (T k).2.1 (T k).2.2.1 ∈ lw_all
theorem zw_getS (hk : zK p s m args meth c g cc own nL) (hH : zHd g hp H) {ci k idx : Nat} {fs : List Value} {v : Value} (er : r = some a) (he : hp a = some (.inr (ci, fs))) (hv : fs[k]? = some v) (hf : zFkS own idx ci k) (hdg : decode cc pc = .ok (.getfield idx, 3))
    (kk : W p l e R s m args below meth c H locs kc ks Q (F0 m (pc + 3) ls (v :: rest))) : W p l e R s m args below meth c H locs kc ks Q (F0 m pc ls (va_rf r :: rest)) := by
  subst er
  obtain ⟨C, T, N, ref, h1, h2, h3, h4⟩ := hf
  obtain ⟨⟨hx, hb, hml, hown, hts⟩, hK, -⟩ := hk
  exact va_get hx hb hts (zcl_ok ci _ h1) hown hK (hH.P he) 0 rfl h1 k h2 (hts _ h3) (z_sameF (hts _ h4)) hv hdg kk
theorem zr_nret (hk : zK p s m args meth c g cc own nL) {ty : FieldType} (hr : meth.sig.returnType = some ty) (hH : zHd g hp H) (hz : H.size = nx) (hS : va_S (zAd g) s.heap H locs) {K : Int32 → zHp → Nat → Prop} {v : Int32} (hv : narrow ty (.int v) = .int v) (hw : K v hp nx) {mc ms : Nat} (h1 : kc ≤ mc) (h2 : ks ≤ ms) (hdg : decode cc pc = .ok (.ireturn, 1)) : W p l e R s m args below meth c H locs kc ks (MQ below (zQi g K) args s mc ms (zAd g)) (F0 m pc ls [.int v]) :=
  W.widen h1 h2 (W.zret hk.1.1 hk.1.2.1 hr hv (fun t ht hW => ⟨⟨v, (hp, nx), rfl, hw, hk.st hH hz hS ht hW⟩, hS.F ht⟩) hS.2.2 hdg hk.2.2.2.2)
theorem z_outerS (c : ClassId) (N h0 : Nat) : ∀ i, ∃ sl, Jvm.Free.Multi.outerC c N h0 i = ({ cls := c, slots := sl, vm := .none } : Cell)
  | 0 => ⟨_, rfl⟩
  | i + 1 => by
    obtain ⟨sl, h⟩ := z_outerS c N h0 i
    refine ⟨(({ cls := c, slots := sl, vm := .none } : Cell).setSlot i (.ref (h0 + 1 + i))).slots, ?_⟩
    show (Jvm.Free.Multi.outerC c N h0 i).setSlot i (.ref (h0 + 1 + i)) = _
    rw [h]
    rfl
theorem z_outer {c : ClassId} {N h0 : Nat} : Jvm.Free.Multi.outerC c N h0 N = vp_cell c (N, .inr (.inr (.inr (.inr (fun j => some (h0 + 1 + j)))))) := by
  obtain ⟨h1, h2, h3⟩ := Jvm.Free.Multi.outerC_facts c N h0 N
  have h4 : (Jvm.Free.Multi.outerC c N h0 N).slots = (arrV c N (fun j => va_rf (some (h0 + 1 + j)))).slots := by
    apply Array.ext_getElem?
    intro j
    by_cases hj : j < N
    · rw [Jvm.Free.Multi.outerC_slot c N h0 N j hj, if_pos hj, arrV_read _ _ hj]
      rfl
    · rw [Array.getElem?_eq_none (by rw [h3]; omega), Array.getElem?_eq_none (by rw [arrV_size]; omega)]
  rw [vp_cell_q]
  obtain ⟨sl, hs⟩ := z_outerS c N h0 N
  rw [hs] at h4 ⊢
  have h4 : sl = (arrV c N (fun j => va_rf (some (h0 + 1 + j)))).slots := h4
  subst h4
  rfl
theorem zr_mnew (hk : zK p s m args meth c g cc own nL) (hH : zHd g hp H) (hz : H.size = nx) (hS : va_S (zAd g) s.heap H locs) (tO tI : Nat) {ty : FieldType} {idx : Nat} {nm : String} (hcl : Cond.classLink own idx nm ∈ lw_all) (hnm : nm = "[" ++ (FieldType.array ty).toString) (hov : (Cond.arrayOver (.array ty)).before #[] s = true) (harr : Cond.arrayClass ty ∈ lw_all) (htO : (zty g.2.1)[tO]? = some (g.2.1 tO, .array ty)) (htI : (zty g.2.1)[tI]? = some (g.2.1 tI, ty)) (hra : ∀ (U : State) (cA : ClassId), va_RA U cA ty → U.vm.findClass ("[" ++ ty.toString) = some cA) (hts : (FieldType.array ty).toString = "[" ++ ty.toString)
    {n k : Int32} {x : (Nat → Int32) ⊕ (Nat → Int64) ⊕ (Nat → UInt32) ⊕ (Nat → UInt64) ⊕ (Nat → Option Nat)} (hx : ∀ (c : ClassId) (M : Nat), Jvm.Free.Multi.innerC c M (defaultValue ty) = vp_cell c (M, x)) (hn : ¬ n < 0) (hkk : ¬ k < 0) (hn1 : n.toNatClampNeg ≤ 65536) (hk1 : k.toNatClampNeg ≤ 65536) (hcb : componentBytes ty ≤ 8) (hdf : fits ty (defaultValue ty) = true) (hdd : (defaultValue ty).isDefault = true) (hcells : kc + (1 + n.toNatClampNeg) ≤ R.cells) (hslots : ks + (n.toNatClampNeg + n.toNatClampNeg * k.toNatClampNeg) ≤ R.slots) (hdg : decode cc pc = .ok (.multianewarray idx 2, 4))
    (kk : ∀ H1 : Heap, zHd g (zmHp hp nx (g.2.1 tO) (g.2.1 tI) n.toNatClampNeg k.toNatClampNeg x) H1 → H1.size = nx + 1 + n.toNatClampNeg → va_S (zAd g) s.heap H1 locs → (∀ (a : Nat) (e : va_E), hp a = some e → a < nx) → zB g ≤ nx → W p l e R s m args below meth c H1 locs (kc + 1 + n.toNatClampNeg) (ks + n.toNatClampNeg + n.toNatClampNeg * k.toNatClampNeg) Q (F0 m (pc + 4) ls (.ref nx :: rest))) : W p l e R s m args below meth c H locs kc ks Q (F0 m pc ls (.int k :: .int n :: rest)) := by
  subst hnm
  have hlt := hH.lt hz
  intro T hT X
  have hb2 : k.toNatClampNeg * componentBytes ty ≤ 536870912 := Nat.le_trans (Nat.mul_le_mul hk1 hcb) (by decide)
  obtain ⟨vm₁, cA, comp, hW, hfA, hfC, hO, hI, X1, step⟩ := X.multianewarray2F hk.1.1 hk.1.2.2.2.1 (hk.1.2.2.2.2 _ hcl) hov (hk.1.2.2.2.2 _ harr) (g := F0 m pc ls (.int k :: .int n :: rest)) rfl (by rw [hk.1.2.1]; exact hdg) (n := n) (k := k) (rest := rest) rfl hn hkk (by omega) hb2 (by omega) hdf hdd hcells hslots
  have eA : cA = g.2.1 tO := Option.some.inj (hfA.symm.trans (show s.vm.findClass ("[" ++ (FieldType.array ty).toString) = some (g.2.1 tO) from (hk.2.1.2 tO _ htO).2))
  have eI : comp = g.2.1 tI := by
    rw [hts] at hfC
    exact Option.some.inj (hfC.symm.trans (hra s _ (hk.2.1.2 tI _ htI).2))
  subst eA; subst eI
  have hsz : (T.setVm vm₁).heap.size = nx := by rw [show (T.setVm vm₁).heap = T.heap from rfl, hT]; exact hz
  obtain ⟨f1, f2, -⟩ := Jvm.Free.Multi.fill_facts (T.setVm vm₁) (g.2.1 tO) (g.2.1 tI) n.toNatClampNeg k.toNatClampNeg (defaultValue ty) n.toNatClampNeg
  have fold : ∀ q : Nat, q < nx → (Jvm.Free.Multi.fill (T.setVm vm₁) (g.2.1 tO) (g.2.1 tI) n.toNatClampNeg k.toNatClampNeg (defaultValue ty) n.toNatClampNeg).heap[q]? = H[q]? := fun q hq => by
    rw [Jvm.Free.Multi.fill_old _ _ _ _ _ _ (by rw [hsz]; exact hq), show (T.setVm vm₁).heap = T.heap from rfl, hT]
  have fin := Jvm.Free.Multi.fill_inner (T.setVm vm₁) (g.2.1 tO) (g.2.1 tI) n.toNatClampNeg k.toNatClampNeg (defaultValue ty) n.toNatClampNeg
  rw [hsz] at f1 f2 fin
  have hE : T.heap.size = nx := by rw [hT]; exact hz
  rw [hE] at step
  obtain ⟨t, b1, b2⟩ := kk _ (by
    intro q ent hq
    unfold zmHp at hq
    split at hq
    · next h => exact (hH q ent hq).kept (fold q h)
    · split at hq
      · next h1 h2 =>
        cases hq
        subst h2
        show _ = some (vp_cell _ _)
        rw [← z_outer]
        exact f2
      · split at hq
        · next h1 h2 h3 =>
          cases hq
          show _ = some (vp_cell _ _)
          rw [← hx]
          have := fin (q - nx - 1) (by omega)
          rwa [show nx + 1 + (q - nx - 1) = q by omega] at this
        · next h1 h2 h3 => exact absurd (hlt q ent hq) h1) f1 ⟨by rw [f1]; have := hS.1; omega, fun x h4 h5 => (fold x (by rw [← hz]; exact Nat.lt_of_lt_of_le h4 hS.1)).trans (hS.2.1 x h4 h5), hS.2.2⟩ hlt (by rw [← hz]; exact Nat.le_trans hk.2.2.2.1 hS.1) _ rfl X1
  exact ⟨t, step t b1, b2⟩
end ZU
theorem z_catI (x : Int32) : (Value.int x).category = 1 := rfl
theorem z_catJ (x : Int64) : (Value.long x).category = 2 := rfl
theorem z_catF (x : UInt32) : (Value.float x).category = 1 := rfl
theorem z_catD (x : UInt64) : (Value.double x).category = 2 := rfl
section ZT
variable {p : Program} {l : Launch} {e : Env} {R : Room} {s : State} {m : MethodId} {args : Array Value} {below : List Frame} {meth : Method} {c : Code} {H : Heap} {locs : List Loc} {kc ks : Nat} {Q : State → Prop}
variable {cc : ByteArray} {pc : Nat} {ls : Array Slot} {rest : List Value} {g : zG} {own : String} {nL : Nat} {hp hp' : zHp} {nx : Nat} {a : Nat} {r : Option Nat}
theorem zx_new (hk : zK p s m args meth c g cc own nL) (hH : zHd g hp H) (hz : H.size = nx) (hS : va_S (zAd g) s.heap H locs) {idx ci : Nat} (hf : zNo own idx ci) (hcells : kc + 1 ≤ R.cells) (hslots : ks + zNn ci ≤ R.slots) (hdg : decode cc pc = .ok (.new idx, 3))
    (kk : ∀ H1 : Heap, zHd g (va_up hp nx (some (.inr (ci, zNf ci)))) H1 → H1.size = nx + 1 → va_S (zAd g) s.heap H1 locs → (∀ (a : Nat) (e : va_E), hp a = some e → a < nx) → zB g ≤ nx → W p l e R s m args below meth c H1 locs (kc + 1) (ks + zNn ci) Q (F0 m (pc + 3) ls (va_rf (some nx) :: rest))) : W p l e R s m args below meth c H locs kc ks Q (F0 m pc ls rest) := zr_new hk hH hz hS hf hcells hslots hdg kk
theorem zx_newa (hk : zK p s m args meth c g cc own nL) (hH : zHd g hp H) (hz : H.size = nx) (hS : va_S (zAd g) s.heap H locs) {atype : ArrayType} (t0 : Nat) {ty : FieldType} (hty : newarray.typeOf atype = ty) (harr : Cond.arrayClass ty ∈ lw_all) (ht : (zty g.2.1)[t0]? = some (g.2.1 t0, ty)) (hnm : ∀ (U : State) (cA : ClassId), va_RA U cA ty → U.vm.findClass ("[" ++ ty.toString) = some cA)
    {n : Int32} {N' : Nat} {a0 : vp_A} (ha : ∀ cA : ClassId, vp_cell cA a0 = arrV cA N' (fun _ => defaultValue ty)) (hn : ¬ n < 0) (hN : n.toNatClampNeg = N') (hbytes : N' * componentBytes ty ≤ 536870912) (hcells : kc + 1 ≤ R.cells) (hslots : ks + N' ≤ R.slots) (hdg : decode cc pc = .ok (.newarray atype, 2))
    (kk : ∀ H1 : Heap, zHd g (va_up hp nx (some (.inl (g.2.1 t0, a0)))) H1 → H1.size = nx + 1 → va_S (zAd g) s.heap H1 locs → (∀ (a : Nat) (e : va_E), hp a = some e → a < nx) → zB g ≤ nx → W p l e R s m args below meth c H1 locs (kc + 1) (ks + N') Q (F0 m (pc + 2) ls (va_rf (some nx) :: rest))) : W p l e R s m args below meth c H locs kc ks Q (F0 m pc ls (.int n :: rest)) := zr_newa hk hH hz hS t0 hty harr ht hnm ha hn hN hbytes hcells hslots hdg kk
theorem zx_newq (hk : zK p s m args meth c g cc own nL) (hH : zHd g hp H) (hz : H.size = nx) (hS : va_S (zAd g) s.heap H locs) (t0 : Nat) {C : String} {idx : Nat} (hcl : Cond.classLink own idx C ∈ lw_all) (hover : C ∈ zAO) (ht : (zty g.2.1)[t0]? = some (g.2.1 t0, .object C)) {n : Int32} (hn : ¬ n < 0) (hbytes : n.toNatClampNeg ≤ 65536) (hcells : kc + 1 ≤ R.cells) (hslots : ks + n.toNatClampNeg ≤ R.slots) (hdg : decode cc pc = .ok (.anewarray idx, 3))
    (kk : ∀ H1 : Heap, zHd g (va_up hp nx (some (.inl (g.2.1 t0, n.toNatClampNeg, .inr (.inr (.inr (.inr (fun _ => none)))))))) H1 → H1.size = nx + 1 → va_S (zAd g) s.heap H1 locs → (∀ (a : Nat) (e : va_E), hp a = some e → a < nx) → zB g ≤ nx → W p l e R s m args below meth c H1 locs (kc + 1) (ks + n.toNatClampNeg) Q (F0 m (pc + 3) ls (va_rf (some nx) :: rest))) : W p l e R s m args below meth c H locs kc ks Q (F0 m pc ls (.int n :: rest)) := zr_newq hk hH hz hS t0 hcl hover ht hn hbytes hcells hslots hdg kk
theorem zx_null (hexec : p.tables.exec = Jvm.exec) (hb : c.code = cc) (hdg : decode cc pc = .ok (.aconst_null, 1)) (k : W p l e R s m args below meth c H locs kc ks Q (F0 m (pc + 1) ls (va_rf none :: rest))) : W p l e R s m args below meth c H locs kc ks Q (F0 m pc ls rest) := lv_null hexec hb hdg k
end ZT
theorem zMet_ofWF {l : Launch} {y : MethodName} {ws ws' : List Cond} {rm : Room} {Pc : Array Value → State → Prop} {Qc : Array Value → State → Outcome → State → Prop} {mc ms : Nat} {free : Addr → Prop} {cc : ByteArray} {maxL : Nat} {ret : Option FieldType}
    (hy : plainFor y = true) (hw : ws = Cond.code y cc maxL ret :: ws')
    (body : ∀ p e s m args below meth c s₁, BodyLoose p l y (headSpec ws rm) cc maxL ret e s m args below meth c s₁ → c.maxLocals = maxL → Pc args s →
      W p l e (headSpec ws rm).room s m args below meth c s.heap [] 0 0 (MQ below Qc args s mc ms free) (entryFrame m args maxL)) : Met l y ws rm Pc Qc mc ms free := by
  refine MetFree.of_bodySF (code := cc) (maxLocals := maxL) (ret := ret) hy ?_ ?_
  · intro args s m h hn
    obtain ⟨meth, c, h1, h2, h3, h4, h5, h6, -, -⟩ := Cond.code_spec hn (atoms_spec (ws := ws) h _ (by rw [hw]; exact List.mem_cons_self))
    exact ⟨meth, c, h1, h2, h3, h4, h5, h6⟩
  · intro p e s m args below meth c s₁ B hml hP _
    have hh0 : s₁.heap = s.heap := by rw [B.state]; rfl
    obtain ⟨t, a1, o, b1, b2, b3⟩ := body p e s m args below meth c s₁ B hml hP s₁ hh0 (Stand.of_body B)
    exact ⟨t, o, a1, b1, b2, ⟨b3.1, b3.2⟩⟩
theorem z_startF {l : Launch} {cc : ByteArray} {g : zG} {hp : zHp} {nx : Nat} {y : MethodName} {L : Nat} {ret : Option FieldType} {d mc ms : Nat} {av : List Value} {Qc : Array Value → State → Outcome → State → Prop} (hy : plainFor y = true) (hL : (lg_sl av).length ≤ L)
    (body : ∀ (p : Program) (e : Env) (s : State) (m : MethodId) (below : List Frame) (meth : Method) (c : Code), zK p s m av.toArray meth c g cc y.cls L → meth.sig.returnType = ret → meth.name = y.name → zHd g hp s.heap → s.heap.size = nx → ∀ ls : Array Slot, lv_has ls L (lv_args 0 av) →
      W p l e (zrm d mc ms) s m av.toArray below meth c s.heap [] 0 0 (MQ below Qc av.toArray s mc ms (zAd g)) (F0 m 0 ls [])) : zMt l g y cc L ret d mc ms av hp nx Qc := by
  refine zMet_ofWF (cc := cc) (maxL := L) (ret := ret) hy rfl ?_
  intro p e s m args below meth c s₁ B hml hv
  obtain ⟨rfl, hH, hz, hK, hR, hb⟩ := hv
  have hts := atoms_spec (ws := ws_ y cc L ret) B.pre
  have hts : ∀ w ∈ lw_all, w.before _ s = true := fun w h => hts w (List.mem_cons_of_mem _ h)
  have hown : s.vm.findClass y.cls = some m.cls := findClass_of_methodNamed B.named
  have hin : meth.name = y.name := (name_of_methodNamed B.named B.method).1
  have hl := lv_entry av (n := L) hL
  rw [lg_entry_eq]
  exact body p e s m below meth c ⟨⟨B.exec, B.bytes, hml, hown, hts⟩, hK, hR, by rw [hz]; exact hb, B.notSynchronized⟩ B.returns hin hH hz _ hl
