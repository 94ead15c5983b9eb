set_option maxRecDepth 100000
section ZA
variable {p : Program} {l : Launch} {e : Env} {R : Room} {s : State} {m : MethodId} {args : Array Value} {below : List Frame} {meth : Method} {c : Code} {H : Heap} {locs : List Loc} {kc ks : Nat} {Q : State → Prop}
variable {cc : ByteArray} {pc : Nat} {ls : Array Slot} {rest : List Value} {g : zG} {own : String} {nL : Nat} {hp : zHp} {nx : Nat} {a : Nat}
theorem z_ty (g : zG) {k : Nat} {q : ClassId × FieldType} (h : (zty g.2.1)[k]? = some q) : (zty g.2.1)[k]? = some q := h
theorem zr_alen (hk : zK p s m args meth c g cc own nL) (hH : zHd g hp H) (t0 : Nat) {x : vp_A} {ty : FieldType} (he : hp a = some (.inl (g.2.1 t0, x))) (ht : (zty g.2.1)[t0]? = some (g.2.1 t0, ty)) (hdg : decode cc pc = .ok (.arraylength, 1))
    (kk : W p l e R s m args below meth c H locs kc ks Q (F0 m (pc + 1) ls (.int (Int32.ofNat x.1) :: rest))) : W p l e R s m args below meth c H locs kc ks Q (F0 m pc ls (.ref a :: rest)) :=
  va_alen hk.1.1 hk.1.2.1 hk.2.1 (hH.P he) 0 t0 rfl ht rfl hdg kk
theorem zr_iald (hk : zK p s m args meth c g cc own nL) (hH : zHd g hp H) {n : Nat} {f : Nat → Int32} {i : Int32} (he : hp a = some (.inl (g.2.1 0, n, .inl f))) (hin : vp_in i n) (hdg : decode cc pc = .ok (.iaload, 1))
    (kk : W p l e R s m args below meth c H locs kc ks Q (F0 m (pc + 1) ls (.int (f i.toNatClampNeg) :: rest))) : W p l e R s m args below meth c H locs kc ks Q (F0 m pc ls (.int i :: .ref a :: rest)) :=
  va_iald hk.1.1 hk.1.2.1 hk.2.1 (hH.P he) 0 0 rfl rfl hin hdg kk
theorem zr_bald (hk : zK p s m args meth c g cc own nL) (hH : zHd g hp H) {n : Nat} {f : Nat → Int32} {i : Int32} (he : hp a = some (.inl (g.2.1 2, n, .inl f))) (hin : vp_in i n) (hdg : decode cc pc = .ok (.baload, 1))
    (kk : W p l e R s m args below meth c H locs kc ks Q (F0 m (pc + 1) ls (.int (f i.toNatClampNeg) :: rest))) : W p l e R s m args below meth c H locs kc ks Q (F0 m pc ls (.int i :: .ref a :: rest)) :=
  va_bald hk.1.1 hk.1.2.1 hk.2.1 (hH.P he) 0 2 rfl rfl hin hdg kk
theorem zr_zald (hk : zK p s m args meth c g cc own nL) (hH : zHd g hp H) {n : Nat} {f : Nat → Int32} {i : Int32} (he : hp a = some (.inl (g.2.1 3, n, .inl f))) (hin : vp_in i n) (hdg : decode cc pc = .ok (.baload, 1))
    (kk : W p l e R s m args below meth c H locs kc ks Q (F0 m (pc + 1) ls (.int (f i.toNatClampNeg) :: rest))) : W p l e R s m args below meth c H locs kc ks Q (F0 m pc ls (.int i :: .ref a :: rest)) :=
  va_zald hk.1.1 hk.1.2.1 hk.2.1 (hH.P he) 0 3 rfl rfl hin hdg kk
theorem zr_lald (hk : zK p s m args meth c g cc own nL) (hH : zHd g hp H) {n : Nat} {f : Nat → Int64} {i : Int32} (he : hp a = some (.inl (g.2.1 4, n, .inr (.inl f)))) (hin : vp_in i n) (hdg : decode cc pc = .ok (.laload, 1))
    (kk : W p l e R s m args below meth c H locs kc ks Q (F0 m (pc + 1) ls (.long (f i.toNatClampNeg) :: rest))) : W p l e R s m args below meth c H locs kc ks Q (F0 m pc ls (.int i :: .ref a :: rest)) :=
  va_lald hk.1.1 hk.1.2.1 hk.2.1 (hH.P he) 0 4 rfl rfl hin hdg kk
theorem zr_fald (hk : zK p s m args meth c g cc own nL) (hH : zHd g hp H) {n : Nat} {f : Nat → UInt32} {i : Int32} (he : hp a = some (.inl (g.2.1 5, n, .inr (.inr (.inl f))))) (hin : vp_in i n) (hdg : decode cc pc = .ok (.faload, 1))
    (kk : W p l e R s m args below meth c H locs kc ks Q (F0 m (pc + 1) ls (.float (f i.toNatClampNeg) :: rest))) : W p l e R s m args below meth c H locs kc ks Q (F0 m pc ls (.int i :: .ref a :: rest)) :=
  va_fald hk.1.1 hk.1.2.1 hk.2.1 (hH.P he) 0 5 rfl rfl hin hdg kk
theorem zr_dald (hk : zK p s m args meth c g cc own nL) (hH : zHd g hp H) {n : Nat} {f : Nat → UInt64} {i : Int32} (he : hp a = some (.inl (g.2.1 1, n, .inr (.inr (.inr (.inl f)))))) (hin : vp_in i n) (hdg : decode cc pc = .ok (.daload, 1))
    (kk : W p l e R s m args below meth c H locs kc ks Q (F0 m (pc + 1) ls (.double (f i.toNatClampNeg) :: rest))) : W p l e R s m args below meth c H locs kc ks Q (F0 m pc ls (.int i :: .ref a :: rest)) :=
  va_dald hk.1.1 hk.1.2.1 hk.2.1 (hH.P he) 0 1 rfl rfl hin hdg kk
theorem zr_aald (hk : zK p s m args meth c g cc own nL) (hH : zHd g hp H) (t0 : Nat) {ty : FieldType} {n : Nat} {f : Nat → Option Nat} {i : Int32} (he : hp a = some (.inl (g.2.1 t0, n, .inr (.inr (.inr (.inr f)))))) (ht : (zty g.2.1)[t0]? = some (g.2.1 t0, ty)) (hty : ty.isReference = true) (hin : vp_in i n) (hdg : decode cc pc = .ok (.aaload, 1))
    (kk : W p l e R s m args below meth c H locs kc ks Q (F0 m (pc + 1) ls (va_rf (f i.toNatClampNeg) :: rest))) : W p l e R s m args below meth c H locs kc ks Q (F0 m pc ls (.int i :: .ref a :: rest)) := by
  have hlt : i.toNatClampNeg < n := Nat.not_le.mp fun q => hin (Or.inr q)
  exact W.aald (v := va_rf (f i.toNatClampNeg)) (ty := ty) hk.1.1 hk.1.2.1 (hH a _ he) ((hk.2.1.2 t0 _ ht).1 n (fun j => va_rf (f j))) hty (fun q => by cases q) (by show ¬ (i < 0 ∨ (arrV _ _ _).slots.size ≤ _); rw [arrV_size]; exact hin) (by show (arrV _ _ _).slots[_]? = _; rw [arrV_read _ _ hlt]) rfl rfl hdg kk
theorem zr_iast (hk : zK p s m args meth c g cc own nL) (hH : zHd g hp H) (hz : H.size = nx) (hS : va_S (zAd g) s.heap H locs) {n : Nat} {f : Nat → Int32} {i : Int32} {x : Int32} (he : hp a = some (.inl (g.2.1 0, n, .inl f))) (hin : vp_in i n) (hA : zB g ≤ a) (hdg : decode cc pc = .ok (.iastore, 1))
    (kk : ∀ (H1 : Heap) (locs1 : List Loc), zHd g (va_up hp a (some (.inl (g.2.1 0, n, .inl (va_up f i.toNatClampNeg x))))) H1 → H1.size = nx → va_S (zAd g) s.heap H1 locs1 → W p l e R s m args below meth c H1 locs1 kc ks Q (F0 m (pc + 1) ls rest)) : W p l e R s m args below meth c H locs kc ks Q (F0 m pc ls (.int x :: .int i :: .ref a :: rest)) := by
  refine W.iast hk.1.1 hk.1.2.1 (hH a _ he) ((hk.2.1.2 0 _ rfl).1 n (fun j => .int (f j))) (fun q => by cases q) (by show ¬ (i < 0 ∨ (arrV _ _ _).slots.size ≤ _); rw [arrV_size]; exact hin) rfl rfl hdg fun H1 e z oq => ?_
  refine kk H1 _ (hH.set ?_ oq) (z.trans hz) (hS.put z oq hA)
  show H1[a]? = some (vp_cell _ _)
  rw [e]
  rw [vp_cell_i, vp_cell_i, arrV_store]
  congr 2
  funext q
  by_cases hq : q = i.toNatClampNeg
  · subst hq
    simp [updV, va_up]
    try rfl
  · simp [updV, va_up, hq]
theorem zr_bast (hk : zK p s m args meth c g cc own nL) (hH : zHd g hp H) (hz : H.size = nx) (hS : va_S (zAd g) s.heap H locs) {n : Nat} {f : Nat → Int32} {i : Int32} {x : Int32} (he : hp a = some (.inl (g.2.1 2, n, .inl f))) (hin : vp_in i n) (hA : zB g ≤ a) (hdg : decode cc pc = .ok (.bastore, 1))
    (kk : ∀ (H1 : Heap) (locs1 : List Loc), zHd g (va_up hp a (some (.inl (g.2.1 2, n, .inl (va_up f i.toNatClampNeg (vp_nar .byte x)))))) H1 → H1.size = nx → va_S (zAd g) s.heap H1 locs1 → W p l e R s m args below meth c H1 locs1 kc ks Q (F0 m (pc + 1) ls rest)) : W p l e R s m args below meth c H locs kc ks Q (F0 m pc ls (.int x :: .int i :: .ref a :: rest)) := by
  refine W.bast hk.1.1 hk.1.2.1 (hH a _ he) ((hk.2.1.2 2 _ rfl).1 n (fun j => .int (f j))) (fun q => by cases q) (by show ¬ (i < 0 ∨ (arrV _ _ _).slots.size ≤ _); rw [arrV_size]; exact hin) rfl rfl hdg fun H1 e z oq => ?_
  refine kk H1 _ (hH.set ?_ oq) (z.trans hz) (hS.put z oq hA)
  show H1[a]? = some (vp_cell _ _)
  rw [e]
  rw [vp_cell_i, vp_cell_i, arrV_store]
  congr 2
  funext q
  by_cases hq : q = i.toNatClampNeg
  · subst hq
    simp [updV, va_up, vp_nar]
    try rfl
  · simp [updV, va_up, hq]
theorem zr_zast (hk : zK p s m args meth c g cc own nL) (hH : zHd g hp H) (hz : H.size = nx) (hS : va_S (zAd g) s.heap H locs) {n : Nat} {f : Nat → Int32} {i : Int32} {x : Int32} (he : hp a = some (.inl (g.2.1 3, n, .inl f))) (hin : vp_in i n) (hA : zB g ≤ a) (hdg : decode cc pc = .ok (.bastore, 1))
    (kk : ∀ (H1 : Heap) (locs1 : List Loc), zHd g (va_up hp a (some (.inl (g.2.1 3, n, .inl (va_up f i.toNatClampNeg (vp_nar .boolean x)))))) H1 → H1.size = nx → va_S (zAd g) s.heap H1 locs1 → W p l e R s m args below meth c H1 locs1 kc ks Q (F0 m (pc + 1) ls rest)) : W p l e R s m args below meth c H locs kc ks Q (F0 m pc ls (.int x :: .int i :: .ref a :: rest)) := by
  refine W.zast hk.1.1 hk.1.2.1 (hH a _ he) ((hk.2.1.2 3 _ rfl).1 n (fun j => .int (f j))) (fun q => by cases q) (by show ¬ (i < 0 ∨ (arrV _ _ _).slots.size ≤ _); rw [arrV_size]; exact hin) rfl rfl hdg fun H1 e z oq => ?_
  refine kk H1 _ (hH.set ?_ oq) (z.trans hz) (hS.put z oq hA)
  show H1[a]? = some (vp_cell _ _)
  rw [e]
  rw [vp_cell_i, vp_cell_i, arrV_store]
  congr 2
  funext q
  by_cases hq : q = i.toNatClampNeg
  · subst hq
    simp [updV, va_up, vp_nar]
    try rfl
  · simp [updV, va_up, hq]
theorem zr_last (hk : zK p s m args meth c g cc own nL) (hH : zHd g hp H) (hz : H.size = nx) (hS : va_S (zAd g) s.heap H locs) {n : Nat} {f : Nat → Int64} {i : Int32} {x : Int64} (he : hp a = some (.inl (g.2.1 4, n, .inr (.inl f)))) (hin : vp_in i n) (hA : zB g ≤ a) (hdg : decode cc pc = .ok (.lastore, 1))
    (kk : ∀ (H1 : Heap) (locs1 : List Loc), zHd g (va_up hp a (some (.inl (g.2.1 4, n, .inr (.inl (va_up f i.toNatClampNeg x)))))) H1 → H1.size = nx → va_S (zAd g) s.heap H1 locs1 → W p l e R s m args below meth c H1 locs1 kc ks Q (F0 m (pc + 1) ls rest)) : W p l e R s m args below meth c H locs kc ks Q (F0 m pc ls (.long x :: .int i :: .ref a :: rest)) := by
  refine W.last hk.1.1 hk.1.2.1 (hH a _ he) ((hk.2.1.2 4 _ rfl).1 n (fun j => .long (f j))) (fun q => by cases q) (by show ¬ (i < 0 ∨ (arrV _ _ _).slots.size ≤ _); rw [arrV_size]; exact hin) rfl rfl hdg fun H1 e z oq => ?_
  refine kk H1 _ (hH.set ?_ oq) (z.trans hz) (hS.put z oq hA)
  show H1[a]? = some (vp_cell _ _)
  rw [e]
  rw [vp_cell_l, vp_cell_l, arrV_store]
  congr 2
  funext q
  by_cases hq : q = i.toNatClampNeg
  · subst hq
    simp [updV, va_up]
    try rfl
  · simp [updV, va_up, hq]
theorem zr_fast (hk : zK p s m args meth c g cc own nL) (hH : zHd g hp H) (hz : H.size = nx) (hS : va_S (zAd g) s.heap H locs) {n : Nat} {f : Nat → UInt32} {i : Int32} {x : UInt32} (he : hp a = some (.inl (g.2.1 5, n, .inr (.inr (.inl f))))) (hin : vp_in i n) (hA : zB g ≤ a) (hdg : decode cc pc = .ok (.fastore, 1))
    (kk : ∀ (H1 : Heap) (locs1 : List Loc), zHd g (va_up hp a (some (.inl (g.2.1 5, n, .inr (.inr (.inl (va_up f i.toNatClampNeg x))))))) H1 → H1.size = nx → va_S (zAd g) s.heap H1 locs1 → W p l e R s m args below meth c H1 locs1 kc ks Q (F0 m (pc + 1) ls rest)) : W p l e R s m args below meth c H locs kc ks Q (F0 m pc ls (.float x :: .int i :: .ref a :: rest)) := by
  refine W.fast hk.1.1 hk.1.2.1 (hH a _ he) ((hk.2.1.2 5 _ rfl).1 n (fun j => .float (f j))) (fun q => by cases q) (by show ¬ (i < 0 ∨ (arrV _ _ _).slots.size ≤ _); rw [arrV_size]; exact hin) rfl rfl hdg fun H1 e z oq => ?_
  refine kk H1 _ (hH.set ?_ oq) (z.trans hz) (hS.put z oq hA)
  show H1[a]? = some (vp_cell _ _)
  rw [e]
  rw [vp_cell_f, vp_cell_f, arrV_store]
  congr 2
  funext q
  by_cases hq : q = i.toNatClampNeg
  · subst hq
    simp [updV, va_up]
    try rfl
  · simp [updV, va_up, hq]
theorem zr_dast (hk : zK p s m args meth c g cc own nL) (hH : zHd g hp H) (hz : H.size = nx) (hS : va_S (zAd g) s.heap H locs) {n : Nat} {f : Nat → UInt64} {i : Int32} {x : UInt64} (he : hp a = some (.inl (g.2.1 1, n, .inr (.inr (.inr (.inl f)))))) (hin : vp_in i n) (hA : zB g ≤ a) (hdg : decode cc pc = .ok (.dastore, 1))
    (kk : ∀ (H1 : Heap) (locs1 : List Loc), zHd g (va_up hp a (some (.inl (g.2.1 1, n, .inr (.inr (.inr (.inl (va_up f i.toNatClampNeg x)))))))) H1 → H1.size = nx → va_S (zAd g) s.heap H1 locs1 → W p l e R s m args below meth c H1 locs1 kc ks Q (F0 m (pc + 1) ls rest)) : W p l e R s m args below meth c H locs kc ks Q (F0 m pc ls (.double x :: .int i :: .ref a :: rest)) := by
  refine W.dast hk.1.1 hk.1.2.1 (hH a _ he) ((hk.2.1.2 1 _ rfl).1 n (fun j => .double (f j))) (fun q => by cases q) (by show ¬ (i < 0 ∨ (arrV _ _ _).slots.size ≤ _); rw [arrV_size]; exact hin) rfl rfl hdg fun H1 e z oq => ?_
  refine kk H1 _ (hH.set ?_ oq) (z.trans hz) (hS.put z oq hA)
  show H1[a]? = some (vp_cell _ _)
  rw [e]
  rw [vp_cell_d, vp_cell_d, arrV_store]
  congr 2
  funext q
  by_cases hq : q = i.toNatClampNeg
  · subst hq
    simp [updV, va_up]
    try rfl
  · simp [updV, va_up, hq]
/-! what is made -/
def zNo (own : String) (idx ci : Nat) : Prop := ∃ (C : String) (T : u_T) (N : Nat), zcl[ci]? = some (C, T, N) ∧ Cond.classLink own idx C ∈ lw_all ∧ Cond.instantiable C N ∈ lw_all ∧ Cond.initialized C ∈ lw_all
/-- the fields of a new object -/
def zNf (ci : Nat) : List Value := match zcl[ci]? with
  | some q => (List.range q.2.2).map (fun k => match parseFieldDescriptor (q.2.1 k).2.2.1 with
    | some t => defaultValue t
    | none => .null)
  | none => []
def zNn (ci : Nat) : Nat := match zcl[ci]? with
  | some q => q.2.2
  | none => 0
theorem zr_new (hk : zK p s m args meth c g cc own nL) (hH : zHd g hp H) (hz : H.size = nx) (hS : va_S (zAd g) s.heap H locs) {idx ci : Nat} (hf : zNo own idx ci) (hcells : kc + 1 ≤ R.cells) (hslots : ks + zNn ci ≤ R.slots) (hdg : decode cc pc = .ok (.new idx, 3))
    (kk : ∀ H1 : Heap, zHd g (va_up hp nx (some (.inr (ci, zNf ci)))) H1 → H1.size = nx + 1 → va_S (zAd g) s.heap H1 locs → (∀ (a : Nat) (e : va_E), hp a = some e → a < nx) → zB g ≤ nx → W p l e R s m args below meth c H1 locs (kc + 1) (ks + zNn ci) Q (F0 m (pc + 3) ls (.ref nx :: rest))) : W p l e R s m args below meth c H locs kc ks Q (F0 m pc ls rest) := by
  obtain ⟨C, T, N, hc, h1, h2, h3⟩ := hf
  obtain ⟨⟨hexec, hb, hml, hown, hts⟩, hK, -, hB, -⟩ := hk
  have hKn := hK.1 ci _ hc
  obtain ⟨ty0, hty, -⟩ := zcl_ty ci _ hc
  have hN : zNn ci = N := by simp [zNn, hc]
  rw [hN] at hslots kk
  refine W.newcK hexec hb hown (hts _ h1) (hts _ h2) (hts _ h3) rfl hdg hcells hslots hKn.2.1 hz fun H1 kC hkC e1 z1 o1 => ?_
  have hlt := hH.lt hz
  refine kk H1 (hH.push hz ⟨_, hc, (u_born ty0 hts (zcl_ok ci _ hc) hKn hkC e1 hty).to fun j hj => ?_⟩ o1) z1 ⟨by rw [z1, ← hz]; exact Nat.le_succ_of_le hS.1, fun x h4 h5 => (o1 x (by rw [← hz]; exact Nat.lt_of_lt_of_le h4 hS.1)).trans (hS.2.1 x h4 h5), hS.2.2⟩ hlt (by rw [← hz]; exact Nat.le_trans hB hS.1)
  have := hty j hj
  simp only [vp_V, zNf, hc]
  simp only [List.getD_eq_getElem?_getD, List.getElem?_map, List.getElem?_range hj, Option.map_some, Option.getD_some]
  dsimp only at this ⊢
  rw [this]
theorem zr_newa (hk : zK p s m args meth c g cc own nL) (hH : zHd g hp H) (hz : H.size = nx) (hS : va_S (zAd g) s.heap H locs) {atype : ArrayType} (t0 : Nat) {ty : FieldType} (hty : newarray.typeOf atype = ty) (harr : Cond.arrayClass ty ∈ lw_all) (ht : (zty g.2.1)[t0]? = some (g.2.1 t0, ty)) (hnm : ∀ (U : State) (cA : ClassId), va_RA U cA ty → U.vm.findClass ("[" ++ ty.toString) = some cA)
    {n : Int32} {N' : Nat} {a0 : vp_A} (ha : ∀ cA : ClassId, vp_cell cA a0 = arrV cA N' (fun _ => defaultValue ty)) (hn : ¬ n < 0) (hN : n.toNatClampNeg = N') (hbytes : N' * componentBytes ty ≤ 536870912) (hcells : kc + 1 ≤ R.cells) (hslots : ks + N' ≤ R.slots) (hdg : decode cc pc = .ok (.newarray atype, 2))
    (kk : ∀ H1 : Heap, zHd g (va_up hp nx (some (.inl (g.2.1 t0, a0)))) H1 → H1.size = nx + 1 → va_S (zAd g) s.heap H1 locs → (∀ (a : Nat) (e : va_E), hp a = some e → a < nx) → zB g ≤ nx → W p l e R s m args below meth c H1 locs (kc + 1) (ks + N') Q (F0 m (pc + 2) ls (.ref nx :: rest))) : W p l e R s m args below meth c H locs kc ks Q (F0 m pc ls (.int n :: rest)) := by
  subst hty
  have hlt := hH.lt hz
  refine va_newaK hk.1.1 hk.1.2.1 (hk.1.2.2.2.2 _ harr) rfl hdg rfl hn hN hbytes hcells hslots hz fun H1 cA e1 z1 o1 hAr hNm => ?_
  have hcA : cA = g.2.1 t0 := by
    have h5 := hnm s _ (hk.2.1.2 t0 _ ht).2
    exact Option.some.inj (hNm.symm.trans h5)
  subst hcA
  refine kk H1 (hH.push hz ?_ o1) z1 ⟨by rw [z1, ← hz]; exact Nat.le_succ_of_le hS.1, fun x h4 h5 => (o1 x (by rw [← hz]; exact Nat.lt_of_lt_of_le h4 hS.1)).trans (hS.2.1 x h4 h5), hS.2.2⟩ hlt (by rw [← hz]; exact Nat.le_trans hk.2.2.2.1 hS.1)
  show H1[nx]? = some (vp_cell _ _)
  rw [ha]
  exact e1
/-! calls -/
section ZC
variable {y : MethodName} {c2 : ByteArray} {L d mc ms n idx : Nat} {ret : Option FieldType} {Qc : Array Value → State → Outcome → State → Prop} {C : String} {b0 : Nat} {As st0 : List Value}
theorem zr_runV (hk : zK p s m args meth c g cc own nL) (hH : zHd g hp H) (hz : H.size = nx) (hS : va_S (zAd g) s.heap H locs) (hl : ls.size = nL) (hM : zMt l g y c2 L ret d mc ms (.ref b0 :: As) hp nx Qc) (cw : CallW R s args own C idx y c2 L ret (ws_ y c2 L ret) (zrm d mc ms) mc ms n) {ci : Nat} {fs : List Value} {T : u_T} {N : Nat} (hr : hp b0 = some (.inr (ci, fs))) (hc : zcl[ci]? = some (C, T, N))
    (hn : As.length = n) (hst : st0 = As.reverse ++ .ref b0 :: rest) (hW : (rest.map fun v => v.category).sum ≤ 8) (hdg : decode cc pc = .ok (.invokevirtual idx, 3)) (hf : kc + mc ≤ R.cells ∧ ks + ms ≤ R.slots) : va_Run p l e R s m args below meth c H locs kc ks mc ms (F0 m pc ls st0) rest (Qc (Value.ref b0 :: As).toArray) (zAd g) :=
  va_runV hk.1 hM cw ⟨zSt.blind, va_recv hk.2.1 (hH.P hr) hc (q0 := 0) rfl, fun U hU hW' => ⟨rfl, hk.st hH hz hS hU hW'⟩⟩ rfl hn hl hst (lv_room hW) hdg hf
theorem zr_runU (hk : zK p s m args meth c g cc own nL) (hH : zHd g hp H) (hz : H.size = nx) (hS : va_S (zAd g) s.heap H locs) (hl : ls.size = nL) (hM : zMt l g y c2 L ret d mc ms (.ref b0 :: As) hp nx Qc) {owner : String} {x : MethodName} (cw : va_CU R s args own C owner idx x y c2 L ret (ws_ y c2 L ret) (zrm d mc ms) mc ms n) {ci : Nat} {fs : List Value} {T : u_T} {N : Nat} (hr : hp b0 = some (.inr (ci, fs))) (hc : zcl[ci]? = some (C, T, N))
    (hn : As.length = n) (hst : st0 = As.reverse ++ .ref b0 :: rest) (hW : (rest.map fun v => v.category).sum ≤ 8) (hdg : decode cc pc = .ok (.invokevirtual idx, 3)) (hf : kc + mc ≤ R.cells ∧ ks + ms ≤ R.slots) : va_Run p l e R s m args below meth c H locs kc ks mc ms (F0 m pc ls st0) rest (Qc (Value.ref b0 :: As).toArray) (zAd g) :=
  va_runU hk.1 hM cw ⟨zSt.blind, va_recv hk.2.1 (hH.P hr) hc (q0 := 0) rfl, fun U hU hW' => ⟨rfl, hk.st hH hz hS hU hW'⟩⟩ rfl hn hl hst (lv_room hW) hdg hf
theorem zr_runVN (hk : zK p s m args meth c g cc own nL) (hH : zHd g hp H) (hz : H.size = nx) (hS : va_S (zAd g) s.heap H locs) (hl : ls.size = nL) (hM : zMt l g y c2 L ret d mc ms (.ref b0 :: As) hp nx Qc) {host : String} (cw : va_CN R s args own idx y host c2 L ret (ws_ y c2 L ret) (zrm d mc ms) mc ms n ∧ (Cond.instanceMethod y).before args s = true ∧ (Cond.selects C y y).before args s = true) {ci : Nat} {fs : List Value} {T : u_T} {N : Nat} (hr : hp b0 = some (.inr (ci, fs))) (hc : zcl[ci]? = some (C, T, N))
    (hn : As.length = n) (hst : st0 = As.reverse ++ .ref b0 :: rest) (hW : (rest.map fun v => v.category).sum ≤ 8) (hdg : decode cc pc = .ok (.invokevirtual idx, 3)) (hf : kc + mc ≤ R.cells ∧ ks + ms ≤ R.slots) : va_Run p l e R s m args below meth c H locs kc ks mc ms (F0 m pc ls st0) rest (Qc (Value.ref b0 :: As).toArray) (zAd g) :=
  va_runVN hk.1 hM cw ⟨zSt.blind, va_recv hk.2.1 (hH.P hr) hc (q0 := 0) rfl, fun U hU hW' => ⟨rfl, hk.st hH hz hS hU hW'⟩⟩ rfl hn hl hst (lv_room hW) hdg hf
theorem zr_runS (hk : zK p s m args meth c g cc own nL) (hH : zHd g hp H) (hz : H.size = nx) (hS : va_S (zAd g) s.heap H locs) (hl : ls.size = nL) (hM : zMt l g y c2 L ret d mc ms As hp nx Qc) (cw : CallB R s args own idx y c2 L ret (ws_ y c2 L ret) (zrm d mc ms) mc ms n ∧ (Cond.static y).before args s = true)
    (hn : As.length = n) (hst : st0 = As.reverse ++ rest) (hW : (rest.map fun v => v.category).sum ≤ 8) (hdg : decode cc pc = .ok (.invokestatic idx, 3)) (hf : kc + mc ≤ R.cells ∧ ks + ms ≤ R.slots) : va_Run p l e R s m args below meth c H locs kc ks mc ms (F0 m pc ls st0) rest (Qc As.toArray) (zAd g) :=
  va_runS hk.1 hM cw ⟨zSt.blind, fun U hU hW' => ⟨rfl, hk.st hH hz hS hU hW'⟩⟩ rfl hn hl hst (lv_room hW) hdg hf
theorem zr_runSN (hk : zK p s m args meth c g cc own nL) (hH : zHd g hp H) (hz : H.size = nx) (hS : va_S (zAd g) s.heap H locs) (hl : ls.size = nL) (hM : zMt l g y c2 L ret d mc ms As hp nx Qc) {host : String} (cw : va_CN R s args own idx y host c2 L ret (ws_ y c2 L ret) (zrm d mc ms) mc ms n ∧ (Cond.static y).before args s = true ∧ True)
    (hn : As.length = n) (hst : st0 = As.reverse ++ rest) (hW : (rest.map fun v => v.category).sum ≤ 8) (hdg : decode cc pc = .ok (.invokestatic idx, 3)) (hf : kc + mc ≤ R.cells ∧ ks + ms ≤ R.slots) : va_Run p l e R s m args below meth c H locs kc ks mc ms (F0 m pc ls st0) rest (Qc As.toArray) (zAd g) :=
  va_runSN hk.1 hM cw ⟨zSt.blind, fun U hU hW' => ⟨rfl, hk.st hH hz hS hU hW'⟩⟩ rfl hn hl hst (lv_room hW) hdg hf
theorem zr_runI (hk : zK p s m args meth c g cc own nL) (hH : zHd g hp H) (hz : H.size = nx) (hS : va_S (zAd g) s.heap H locs) (hl : ls.size = nL) (hM : zMt l g y c2 L none d mc ms (.ref b0 :: As) hp nx Qc) (cw : CallB R s args own idx y c2 L none (ws_ y c2 L none) (zrm d mc ms) mc ms n ∧ y.name = "<init>" ∧ (Cond.instanceMethod y).before args s = true)
    (hn : As.length = n) (hst : st0 = As.reverse ++ .ref b0 :: rest) (hW : (rest.map fun v => v.category).sum ≤ 8) (hdg : decode cc pc = .ok (.invokespecial idx, 3)) (hf : kc + mc ≤ R.cells ∧ ks + ms ≤ R.slots) : va_Run p l e R s m args below meth c H locs kc ks mc ms (F0 m pc ls st0) rest (Qc (Value.ref b0 :: As).toArray) (zAd g) :=
  va_runI hk.1 hM cw ⟨zSt.blind, fun U hU hW' => ⟨rfl, hk.st hH hz hS hU hW'⟩⟩ rfl hn hl hst (lv_room hW) hdg hf
end ZC
variable {mc ms : Nat} {st0 : List Value} {aa : Array Value}
theorem zr_callv {K : zHp → Nat → Prop} (hr : va_Run p l e R s m args below meth c H locs kc ks mc ms (F0 m pc ls st0) rest (zQv g K aa) (zAd g)) (hS : va_S (zAd g) s.heap H locs)
    (kk : ∀ (hp' : zHp) (nx' : Nat), K hp' nx' → ∀ (H1 : Heap) (locs1 : List Loc), zHd g hp' H1 → H1.size = nx' → va_S (zAd g) s.heap H1 locs1 → W p l e R s m args below meth c H1 locs1 (kc + mc) (ks + ms) Q (F0 m (pc + 3) ls rest)) : W p l e R s m args below meth c H locs kc ks Q (F0 m pc ls st0) := by
  refine va_callv hr hS (fun _ _ h => h) (fun _ h => h) (fun u t H1 locs1 ht hvm hpost hB h1 h2 h3 => ?_)
  exact kk u.1 u.2 hpost H1 locs1 (by rw [← ht]; exact hB.1) (by rw [← ht]; exact hB.2.1) h3
theorem zr_calli {K : Int32 → zHp → Nat → Prop} (hr : va_Run p l e R s m args below meth c H locs kc ks mc ms (F0 m pc ls st0) rest (zQi g K aa) (zAd g)) (hS : va_S (zAd g) s.heap H locs)
    (kk : ∀ (r : Int32) (hp' : zHp) (nx' : Nat), K r hp' nx' → ∀ (H1 : Heap) (locs1 : List Loc), zHd g hp' H1 → H1.size = nx' → va_S (zAd g) s.heap H1 locs1 → W p l e R s m args below meth c H1 locs1 (kc + mc) (ks + ms) Q (F0 m (pc + 3) ls (.int r :: rest))) : W p l e R s m args below meth c H locs kc ks Q (F0 m pc ls st0) := by
  refine va_calli hr hS (fun _ _ h => h) (fun _ h => h) (fun r u t H1 locs1 ht hvm hpost hB h1 h2 h3 => ?_)
  exact kk r u.1 u.2 hpost H1 locs1 (by rw [← ht]; exact hB.1) (by rw [← ht]; exact hB.2.1) h3
theorem zr_calll {K : Int64 → zHp → Nat → Prop} (hr : va_Run p l e R s m args below meth c H locs kc ks mc ms (F0 m pc ls st0) rest (zQl g K aa) (zAd g)) (hS : va_S (zAd g) s.heap H locs)
    (kk : ∀ (r : Int64) (hp' : zHp) (nx' : Nat), K r hp' nx' → ∀ (H1 : Heap) (locs1 : List Loc), zHd g hp' H1 → H1.size = nx' → va_S (zAd g) s.heap H1 locs1 → W p l e R s m args below meth c H1 locs1 (kc + mc) (ks + ms) Q (F0 m (pc + 3) ls (.long r :: rest))) : W p l e R s m args below meth c H locs kc ks Q (F0 m pc ls st0) := by
  refine va_calll hr hS (fun _ _ h => h) (fun _ h => h) (fun r u t H1 locs1 ht hvm hpost hB h1 h2 h3 => ?_)
  exact kk r u.1 u.2 hpost H1 locs1 (by rw [← ht]; exact hB.1) (by rw [← ht]; exact hB.2.1) h3
theorem zr_calld {K : UInt64 → zHp → Nat → Prop} (hr : va_Run p l e R s m args below meth c H locs kc ks mc ms (F0 m pc ls st0) rest (zQd g K aa) (zAd g)) (hS : va_S (zAd g) s.heap H locs)
    (kk : ∀ (r : UInt64) (hp' : zHp) (nx' : Nat), K r hp' nx' → ∀ (H1 : Heap) (locs1 : List Loc), zHd g hp' H1 → H1.size = nx' → va_S (zAd g) s.heap H1 locs1 → W p l e R s m args below meth c H1 locs1 (kc + mc) (ks + ms) Q (F0 m (pc + 3) ls (.double r :: rest))) : W p l e R s m args below meth c H locs kc ks Q (F0 m pc ls st0) := by
  refine va_calld hr hS (fun _ _ h => h) (fun _ h => h) (fun r u t H1 locs1 ht hvm hpost hB h1 h2 h3 => ?_)
  exact kk r u.1 u.2 hpost H1 locs1 (by rw [← ht]; exact hB.1) (by rw [← ht]; exact hB.2.1) h3
theorem zr_callq {K : Option Nat → zHp → Nat → Prop} (hr : va_Run p l e R s m args below meth c H locs kc ks mc ms (F0 m pc ls st0) rest (zQq g K aa) (zAd g)) (hS : va_S (zAd g) s.heap H locs)
    (kk : ∀ (r : Option Nat) (hp' : zHp) (nx' : Nat), K r hp' nx' → ∀ (H1 : Heap) (locs1 : List Loc), zHd g hp' H1 → H1.size = nx' → va_S (zAd g) s.heap H1 locs1 → W p l e R s m args below meth c H1 locs1 (kc + mc) (ks + ms) Q (F0 m (pc + 3) ls (va_rf r :: rest))) : W p l e R s m args below meth c H locs kc ks Q (F0 m pc ls st0) := by
  refine va_callq hr hS (fun _ _ h => h) (fun _ h => h) (fun r u t H1 locs1 ht hvm hpost hB h1 h2 h3 => ?_)
  exact kk r u.1 u.2 hpost H1 locs1 (by rw [← ht]; exact hB.1) (by rw [← ht]; exact hB.2.1) h3
end ZA
