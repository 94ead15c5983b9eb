set_option maxRecDepth 100000
section ZY
variable {p : Program} {l : Launch} {e : Env} {R : Room} {s : State} {m : MethodId} {args : Array Value} {below : List Frame} {meth : Method} {c : Code} {H : Heap} {locs : List Loc} {kc ks : Nat} {Q : State → Prop}
variable {cc : ByteArray} {pc : Nat} {ls : Array Slot} {rest : List Value} {g : zG} {own : String} {nL : Nat} {hp hp' : zHp} {nx : Nat} {a : Nat} {r : Option Nat}
theorem zw_copyI (hk : zK p s m args meth c g cc own nL) (hH : zHd g hp H) (hz : H.size = nx) (hS : va_S (zAd g) s.heap H locs) (hl : ls.size = nL) {idx : Nat} (q1 : Cond.methodLink own idx arraycopyName ∈ lw_all) (q2 : Cond.native arraycopyName ∈ lw_all) (q3 : Cond.static arraycopyName ∈ lw_all) (q4 : Cond.initialized "java/lang/System" ∈ lw_all) (t0 : Nat) {a1 n0 n1 : Nat} {r0 r1 : Option Nat} {f f2 : Nat → Int32} {ty : FieldType} (er0 : r0 = some a) (er1 : r1 = some a1) (he0 : hp a = some (.inl (g.2.1 t0, n0, .inl f))) (he1 : hp a1 = some (.inl (g.2.1 t0, n1, .inl f2))) (ht : (zty g.2.1)[t0]? = some (g.2.1 t0, ty)) (hprim : refKind ty = false) (hA : zB g ≤ a1)
    {sp dp n : Int32} (h1 : ¬ sp < 0) (h2 : ¬ dp < 0) (h3 : ¬ n < 0) (h4 : sp.toNatClampNeg + n.toNatClampNeg ≤ n0) (h5 : dp.toNatClampNeg + n.toNatClampNeg ≤ n1) (hfit : ∀ i, i < n.toNatClampNeg → fits ty (.int (f (sp.toNatClampNeg + i))) = true) (eh : hp' = va_up hp a1 (some (.inl (g.2.1 t0, n1, .inl (va_cpy f f2 sp.toNatClampNeg dp.toNatClampNeg n.toNatClampNeg)))))
    (hframes : 1 ≤ R.frames) (hlocals : (rest.map fun v => v.category).sum + (nativeFrameWords "java/lang/System" "arraycopy" 5 + 11) ≤ R.locals) (hdg : decode cc pc = .ok (.invokestatic idx, 3))
    (kk : ∀ (H1 : Heap) (locs1 : List Loc), zHd g hp' H1 → H1.size = nx → va_S (zAd g) s.heap H1 locs1 → W p l e R s m args below meth c H1 locs1 kc ks Q (F0 m (pc + 3) ls rest)) : W p l e R s m args below meth c H locs kc ks Q (F0 m pc ls (.int n :: .int dp :: va_rf r1 :: .int sp :: va_rf r0 :: rest)) := by
  subst er0; subst er1; subst eh; subst hz
  obtain ⟨⟨hexec, hb, hml, hown, hts⟩, hK, -, hB, -⟩ := hk
  have nn : ∀ z : Int32, ¬ z < 0 → z.toInt = (z.toNatClampNeg : Int) := by
    intro z hz
    have hz0 : (0 : Int) ≤ z.toInt := by
      have := Int32.not_lt.mp hz
      simpa using Int32.le_iff_toInt_le.mp this
    show z.toInt = ((z.toInt.toNat : Nat) : Int)
    omega
  intro T hT X
  have hc0 : H[a]? = some (vp_cell (g.2.1 t0) (n0, .inl f)) := hH a _ he0
  have hc1 : H[a1]? = some (vp_cell (g.2.1 t0) (n1, .inl f2)) := hH a1 _ he1
  obtain ⟨-, k0, hk0, cm0, hkk0⟩ := (hK.2 t0 _ ht).1 n0 (fun j => .int (f j))
  obtain ⟨-, k1, hk1, cm1, hkk1⟩ := (hK.2 t0 _ ht).1 n1 (fun j => .int (f2 j))
  obtain ⟨vm', X', step⟩ := X.arraycopy hexec hown (hts _ q1) (hts _ q2) (hts _ q3) (hts _ q4) (src := a) (dst := a1) (cs := vp_cell (g.2.1 t0) (n0, .inl f)) (cd := vp_cell (g.2.1 t0) (n1, .inl f2)) (srcPos := sp) (destPos := dp) (n := n) (by rw [hT]; exact hc0) (by rw [hT]; exact hc1)
    (fun _ h => by cases h) (fun _ h => by cases h) (fun h => by cases h) (fun h => by cases h) hk0 hk1 hkk0 hkk1 (by simp [hprim]) h1 h2 h3
    (by rw [nn sp h1, nn n h3]; show ¬ _ > ((arrV (g.2.1 t0) n0 (fun j => .int (f j))).slots.size : Int); rw [arrV_size]; omega)
    (by rw [nn dp h2, nn n h3]; show ¬ _ > ((arrV (g.2.1 t0) n1 (fun j => .int (f2 j))).slots.size : Int); rw [arrV_size]; omega)
    (fun vm₁ _ i hi => by
      have e : (vp_cell (g.2.1 t0) (n0, .inl f)).slots.getD (sp.toNatClampNeg + i) .null = .int (f (sp.toNatClampNeg + i)) := by
        show (arrV (g.2.1 t0) n0 (fun j => .int (f j))).slots.getD _ _ = _
        rw [Array.getD_eq_getD_getElem?, arrV_read _ _ (by omega)]
        rfl
      refine ⟨?_, ?_⟩
      · rw [e]
        exact hfit i hi
      · rw [e]
        exact trivial)
    (g := F0 m pc ls (.int n :: .int dp :: .ref a1 :: .int sp :: .ref a :: rest)) rfl (by rw [hml]; exact hl) (rest := rest) rfl (by rw [hb]; exact hdg) hframes (by show 2 * 0 + _ + _ ≤ _; omega)
  have e1 : copied (vp_cell (g.2.1 t0) (n0, .inl f)) (vp_cell (g.2.1 t0) (n1, .inl f2)) sp dp n = vp_cell (g.2.1 t0) (n1, .inl (va_cpy f f2 sp.toNatClampNeg dp.toNatClampNeg n.toNatClampNeg)) := va_copied (fun z => .int z) (g.2.1 t0) (g.2.1 t0) f f2 h4
  rw [e1] at X' step
  have hl2 : a1 < H.size := (Array.getElem?_eq_some_iff.mp hc1).1
  have hheap : ((T.setVm vm').setCell a1 (vp_cell (g.2.1 t0) (n1, .inl (va_cpy f f2 sp.toNatClampNeg dp.toNatClampNeg n.toNatClampNeg)))).heap = H.setIfInBounds a1 (vp_cell (g.2.1 t0) (n1, .inl (va_cpy f f2 sp.toNatClampNeg dp.toNatClampNeg n.toNatClampNeg))) := by rw [← hT]; rfl
  have oq : ∀ q : Nat, q ≠ a1 → (H.setIfInBounds a1 (vp_cell (g.2.1 t0) (n1, .inl (va_cpy f f2 sp.toNatClampNeg dp.toNatClampNeg n.toNatClampNeg))))[q]? = H[q]? := fun q hq => by simp [Array.getElem?_setIfInBounds, Ne.symm hq]
  obtain ⟨t, b1, b2⟩ := kk _ _ (hH.set (show (H.setIfInBounds a1 _)[a1]? = some _ by simp [Array.getElem?_setIfInBounds, hl2]) oq) (by simp) ⟨by simp; exact hS.1, fun q g1 g2 => by
      rw [oq q (fun e => g2 (by rw [e]; exact hA))]
      exact hS.2.1 q g1 g2, fun q hq => by
      rcases List.mem_append.mp hq with h | h
      · exact hS.2.2 q h
      · obtain ⟨z, -, hz⟩ := List.mem_map.mp h
        rw [← hz]
        exact hA⟩ _ hheap X'
  exact ⟨t, step t b1, b2⟩
theorem zw_copyD (hk : zK p s m args meth c g cc own nL) (hH : zHd g hp H) (hz : H.size = nx) (hS : va_S (zAd g) s.heap H locs) (hl : ls.size = nL) {idx : Nat} (q1 : Cond.methodLink own idx arraycopyName ∈ lw_all) (q2 : Cond.native arraycopyName ∈ lw_all) (q3 : Cond.static arraycopyName ∈ lw_all) (q4 : Cond.initialized "java/lang/System" ∈ lw_all) (t0 : Nat) {a1 n0 n1 : Nat} {r0 r1 : Option Nat} {f f2 : Nat → UInt64} {ty : FieldType} (er0 : r0 = some a) (er1 : r1 = some a1) (he0 : hp a = some (.inl (g.2.1 t0, n0, .inr (.inr (.inr (.inl f)))))) (he1 : hp a1 = some (.inl (g.2.1 t0, n1, .inr (.inr (.inr (.inl f2)))))) (ht : (zty g.2.1)[t0]? = some (g.2.1 t0, ty)) (hprim : refKind ty = false) (hA : zB g ≤ a1)
    {sp dp n : Int32} (h1 : ¬ sp < 0) (h2 : ¬ dp < 0) (h3 : ¬ n < 0) (h4 : sp.toNatClampNeg + n.toNatClampNeg ≤ n0) (h5 : dp.toNatClampNeg + n.toNatClampNeg ≤ n1) (hfit : ∀ i, i < n.toNatClampNeg → fits ty (.double (f (sp.toNatClampNeg + i))) = true) (eh : hp' = va_up hp a1 (some (.inl (g.2.1 t0, n1, .inr (.inr (.inr (.inl (va_cpy f f2 sp.toNatClampNeg dp.toNatClampNeg n.toNatClampNeg))))))))
    (hframes : 1 ≤ R.frames) (hlocals : (rest.map fun v => v.category).sum + (nativeFrameWords "java/lang/System" "arraycopy" 5 + 11) ≤ R.locals) (hdg : decode cc pc = .ok (.invokestatic idx, 3))
    (kk : ∀ (H1 : Heap) (locs1 : List Loc), zHd g hp' H1 → H1.size = nx → va_S (zAd g) s.heap H1 locs1 → W p l e R s m args below meth c H1 locs1 kc ks Q (F0 m (pc + 3) ls rest)) : W p l e R s m args below meth c H locs kc ks Q (F0 m pc ls (.int n :: .int dp :: va_rf r1 :: .int sp :: va_rf r0 :: rest)) := by
  subst er0; subst er1; subst eh; subst hz
  obtain ⟨⟨hexec, hb, hml, hown, hts⟩, hK, -, hB, -⟩ := hk
  have nn : ∀ z : Int32, ¬ z < 0 → z.toInt = (z.toNatClampNeg : Int) := by
    intro z hz
    have hz0 : (0 : Int) ≤ z.toInt := by
      have := Int32.not_lt.mp hz
      simpa using Int32.le_iff_toInt_le.mp this
    show z.toInt = ((z.toInt.toNat : Nat) : Int)
    omega
  intro T hT X
  have hc0 : H[a]? = some (vp_cell (g.2.1 t0) (n0, .inr (.inr (.inr (.inl f))))) := hH a _ he0
  have hc1 : H[a1]? = some (vp_cell (g.2.1 t0) (n1, .inr (.inr (.inr (.inl f2))))) := hH a1 _ he1
  obtain ⟨-, k0, hk0, cm0, hkk0⟩ := (hK.2 t0 _ ht).1 n0 (fun j => .double (f j))
  obtain ⟨-, k1, hk1, cm1, hkk1⟩ := (hK.2 t0 _ ht).1 n1 (fun j => .double (f2 j))
  obtain ⟨vm', X', step⟩ := X.arraycopy hexec hown (hts _ q1) (hts _ q2) (hts _ q3) (hts _ q4) (src := a) (dst := a1) (cs := vp_cell (g.2.1 t0) (n0, .inr (.inr (.inr (.inl f))))) (cd := vp_cell (g.2.1 t0) (n1, .inr (.inr (.inr (.inl f2))))) (srcPos := sp) (destPos := dp) (n := n) (by rw [hT]; exact hc0) (by rw [hT]; exact hc1)
    (fun _ h => by cases h) (fun _ h => by cases h) (fun h => by cases h) (fun h => by cases h) hk0 hk1 hkk0 hkk1 (by simp [hprim]) h1 h2 h3
    (by rw [nn sp h1, nn n h3]; show ¬ _ > ((arrV (g.2.1 t0) n0 (fun j => .double (f j))).slots.size : Int); rw [arrV_size]; omega)
    (by rw [nn dp h2, nn n h3]; show ¬ _ > ((arrV (g.2.1 t0) n1 (fun j => .double (f2 j))).slots.size : Int); rw [arrV_size]; omega)
    (fun vm₁ _ i hi => by
      have e : (vp_cell (g.2.1 t0) (n0, .inr (.inr (.inr (.inl f))))).slots.getD (sp.toNatClampNeg + i) .null = .double (f (sp.toNatClampNeg + i)) := by
        show (arrV (g.2.1 t0) n0 (fun j => .double (f j))).slots.getD _ _ = _
        rw [Array.getD_eq_getD_getElem?, arrV_read _ _ (by omega)]
        rfl
      refine ⟨?_, ?_⟩
      · rw [e]
        exact hfit i hi
      · rw [e]
        exact trivial)
    (g := F0 m pc ls (.int n :: .int dp :: .ref a1 :: .int sp :: .ref a :: rest)) rfl (by rw [hml]; exact hl) (rest := rest) rfl (by rw [hb]; exact hdg) hframes (by show 2 * 0 + _ + _ ≤ _; omega)
  have e1 : copied (vp_cell (g.2.1 t0) (n0, .inr (.inr (.inr (.inl f))))) (vp_cell (g.2.1 t0) (n1, .inr (.inr (.inr (.inl f2))))) sp dp n = vp_cell (g.2.1 t0) (n1, .inr (.inr (.inr (.inl (va_cpy f f2 sp.toNatClampNeg dp.toNatClampNeg n.toNatClampNeg))))) := va_copied (fun z => .double z) (g.2.1 t0) (g.2.1 t0) f f2 h4
  rw [e1] at X' step
  have hl2 : a1 < H.size := (Array.getElem?_eq_some_iff.mp hc1).1
  have hheap : ((T.setVm vm').setCell a1 (vp_cell (g.2.1 t0) (n1, .inr (.inr (.inr (.inl (va_cpy f f2 sp.toNatClampNeg dp.toNatClampNeg n.toNatClampNeg))))))).heap = H.setIfInBounds a1 (vp_cell (g.2.1 t0) (n1, .inr (.inr (.inr (.inl (va_cpy f f2 sp.toNatClampNeg dp.toNatClampNeg n.toNatClampNeg)))))) := by rw [← hT]; rfl
  have oq : ∀ q : Nat, q ≠ a1 → (H.setIfInBounds a1 (vp_cell (g.2.1 t0) (n1, .inr (.inr (.inr (.inl (va_cpy f f2 sp.toNatClampNeg dp.toNatClampNeg n.toNatClampNeg)))))))[q]? = H[q]? := fun q hq => by simp [Array.getElem?_setIfInBounds, Ne.symm hq]
  obtain ⟨t, b1, b2⟩ := kk _ _ (hH.set (show (H.setIfInBounds a1 _)[a1]? = some _ by simp [Array.getElem?_setIfInBounds, hl2]) oq) (by simp) ⟨by simp; exact hS.1, fun q g1 g2 => by
      rw [oq q (fun e => g2 (by rw [e]; exact hA))]
      exact hS.2.1 q g1 g2, fun q hq => by
      rcases List.mem_append.mp hq with h | h
      · exact hS.2.2 q h
      · obtain ⟨z, -, hz⟩ := List.mem_map.mp h
        rw [← hz]
        exact hA⟩ _ hheap X'
  exact ⟨t, step t b1, b2⟩
theorem zw_copyF (hk : zK p s m args meth c g cc own nL) (hH : zHd g hp H) (hz : H.size = nx) (hS : va_S (zAd g) s.heap H locs) (hl : ls.size = nL) {idx : Nat} (q1 : Cond.methodLink own idx arraycopyName ∈ lw_all) (q2 : Cond.native arraycopyName ∈ lw_all) (q3 : Cond.static arraycopyName ∈ lw_all) (q4 : Cond.initialized "java/lang/System" ∈ lw_all) (t0 : Nat) {a1 n0 n1 : Nat} {r0 r1 : Option Nat} {f f2 : Nat → UInt32} {ty : FieldType} (er0 : r0 = some a) (er1 : r1 = some a1) (he0 : hp a = some (.inl (g.2.1 t0, n0, .inr (.inr (.inl f))))) (he1 : hp a1 = some (.inl (g.2.1 t0, n1, .inr (.inr (.inl f2))))) (ht : (zty g.2.1)[t0]? = some (g.2.1 t0, ty)) (hprim : refKind ty = false) (hA : zB g ≤ a1)
    {sp dp n : Int32} (h1 : ¬ sp < 0) (h2 : ¬ dp < 0) (h3 : ¬ n < 0) (h4 : sp.toNatClampNeg + n.toNatClampNeg ≤ n0) (h5 : dp.toNatClampNeg + n.toNatClampNeg ≤ n1) (hfit : ∀ i, i < n.toNatClampNeg → fits ty (.float (f (sp.toNatClampNeg + i))) = true) (eh : hp' = va_up hp a1 (some (.inl (g.2.1 t0, n1, .inr (.inr (.inl (va_cpy f f2 sp.toNatClampNeg dp.toNatClampNeg n.toNatClampNeg)))))))
    (hframes : 1 ≤ R.frames) (hlocals : (rest.map fun v => v.category).sum + (nativeFrameWords "java/lang/System" "arraycopy" 5 + 11) ≤ R.locals) (hdg : decode cc pc = .ok (.invokestatic idx, 3))
    (kk : ∀ (H1 : Heap) (locs1 : List Loc), zHd g hp' H1 → H1.size = nx → va_S (zAd g) s.heap H1 locs1 → W p l e R s m args below meth c H1 locs1 kc ks Q (F0 m (pc + 3) ls rest)) : W p l e R s m args below meth c H locs kc ks Q (F0 m pc ls (.int n :: .int dp :: va_rf r1 :: .int sp :: va_rf r0 :: rest)) := by
  subst er0; subst er1; subst eh; subst hz
  obtain ⟨⟨hexec, hb, hml, hown, hts⟩, hK, -, hB, -⟩ := hk
  have nn : ∀ z : Int32, ¬ z < 0 → z.toInt = (z.toNatClampNeg : Int) := by
    intro z hz
    have hz0 : (0 : Int) ≤ z.toInt := by
      have := Int32.not_lt.mp hz
      simpa using Int32.le_iff_toInt_le.mp this
    show z.toInt = ((z.toInt.toNat : Nat) : Int)
    omega
  intro T hT X
  have hc0 : H[a]? = some (vp_cell (g.2.1 t0) (n0, .inr (.inr (.inl f)))) := hH a _ he0
  have hc1 : H[a1]? = some (vp_cell (g.2.1 t0) (n1, .inr (.inr (.inl f2)))) := hH a1 _ he1
  obtain ⟨-, k0, hk0, cm0, hkk0⟩ := (hK.2 t0 _ ht).1 n0 (fun j => .float (f j))
  obtain ⟨-, k1, hk1, cm1, hkk1⟩ := (hK.2 t0 _ ht).1 n1 (fun j => .float (f2 j))
  obtain ⟨vm', X', step⟩ := X.arraycopy hexec hown (hts _ q1) (hts _ q2) (hts _ q3) (hts _ q4) (src := a) (dst := a1) (cs := vp_cell (g.2.1 t0) (n0, .inr (.inr (.inl f)))) (cd := vp_cell (g.2.1 t0) (n1, .inr (.inr (.inl f2)))) (srcPos := sp) (destPos := dp) (n := n) (by rw [hT]; exact hc0) (by rw [hT]; exact hc1)
    (fun _ h => by cases h) (fun _ h => by cases h) (fun h => by cases h) (fun h => by cases h) hk0 hk1 hkk0 hkk1 (by simp [hprim]) h1 h2 h3
    (by rw [nn sp h1, nn n h3]; show ¬ _ > ((arrV (g.2.1 t0) n0 (fun j => .float (f j))).slots.size : Int); rw [arrV_size]; omega)
    (by rw [nn dp h2, nn n h3]; show ¬ _ > ((arrV (g.2.1 t0) n1 (fun j => .float (f2 j))).slots.size : Int); rw [arrV_size]; omega)
    (fun vm₁ _ i hi => by
      have e : (vp_cell (g.2.1 t0) (n0, .inr (.inr (.inl f)))).slots.getD (sp.toNatClampNeg + i) .null = .float (f (sp.toNatClampNeg + i)) := by
        show (arrV (g.2.1 t0) n0 (fun j => .float (f j))).slots.getD _ _ = _
        rw [Array.getD_eq_getD_getElem?, arrV_read _ _ (by omega)]
        rfl
      refine ⟨?_, ?_⟩
      · rw [e]
        exact hfit i hi
      · rw [e]
        exact trivial)
    (g := F0 m pc ls (.int n :: .int dp :: .ref a1 :: .int sp :: .ref a :: rest)) rfl (by rw [hml]; exact hl) (rest := rest) rfl (by rw [hb]; exact hdg) hframes (by show 2 * 0 + _ + _ ≤ _; omega)
  have e1 : copied (vp_cell (g.2.1 t0) (n0, .inr (.inr (.inl f)))) (vp_cell (g.2.1 t0) (n1, .inr (.inr (.inl f2)))) sp dp n = vp_cell (g.2.1 t0) (n1, .inr (.inr (.inl (va_cpy f f2 sp.toNatClampNeg dp.toNatClampNeg n.toNatClampNeg)))) := va_copied (fun z => .float z) (g.2.1 t0) (g.2.1 t0) f f2 h4
  rw [e1] at X' step
  have hl2 : a1 < H.size := (Array.getElem?_eq_some_iff.mp hc1).1
  have hheap : ((T.setVm vm').setCell a1 (vp_cell (g.2.1 t0) (n1, .inr (.inr (.inl (va_cpy f f2 sp.toNatClampNeg dp.toNatClampNeg n.toNatClampNeg)))))).heap = H.setIfInBounds a1 (vp_cell (g.2.1 t0) (n1, .inr (.inr (.inl (va_cpy f f2 sp.toNatClampNeg dp.toNatClampNeg n.toNatClampNeg))))) := by rw [← hT]; rfl
  have oq : ∀ q : Nat, q ≠ a1 → (H.setIfInBounds a1 (vp_cell (g.2.1 t0) (n1, .inr (.inr (.inl (va_cpy f f2 sp.toNatClampNeg dp.toNatClampNeg n.toNatClampNeg))))))[q]? = H[q]? := fun q hq => by simp [Array.getElem?_setIfInBounds, Ne.symm hq]
  obtain ⟨t, b1, b2⟩ := kk _ _ (hH.set (show (H.setIfInBounds a1 _)[a1]? = some _ by simp [Array.getElem?_setIfInBounds, hl2]) oq) (by simp) ⟨by simp; exact hS.1, fun q g1 g2 => by
      rw [oq q (fun e => g2 (by rw [e]; exact hA))]
      exact hS.2.1 q g1 g2, fun q hq => by
      rcases List.mem_append.mp hq with h | h
      · exact hS.2.2 q h
      · obtain ⟨z, -, hz⟩ := List.mem_map.mp h
        rw [← hz]
        exact hA⟩ _ hheap X'
  exact ⟨t, step t b1, b2⟩
theorem zw_copyJ (hk : zK p s m args meth c g cc own nL) (hH : zHd g hp H) (hz : H.size = nx) (hS : va_S (zAd g) s.heap H locs) (hl : ls.size = nL) {idx : Nat} (q1 : Cond.methodLink own idx arraycopyName ∈ lw_all) (q2 : Cond.native arraycopyName ∈ lw_all) (q3 : Cond.static arraycopyName ∈ lw_all) (q4 : Cond.initialized "java/lang/System" ∈ lw_all) (t0 : Nat) {a1 n0 n1 : Nat} {r0 r1 : Option Nat} {f f2 : Nat → Int64} {ty : FieldType} (er0 : r0 = some a) (er1 : r1 = some a1) (he0 : hp a = some (.inl (g.2.1 t0, n0, .inr (.inl f)))) (he1 : hp a1 = some (.inl (g.2.1 t0, n1, .inr (.inl f2)))) (ht : (zty g.2.1)[t0]? = some (g.2.1 t0, ty)) (hprim : refKind ty = false) (hA : zB g ≤ a1)
    {sp dp n : Int32} (h1 : ¬ sp < 0) (h2 : ¬ dp < 0) (h3 : ¬ n < 0) (h4 : sp.toNatClampNeg + n.toNatClampNeg ≤ n0) (h5 : dp.toNatClampNeg + n.toNatClampNeg ≤ n1) (hfit : ∀ i, i < n.toNatClampNeg → fits ty (.long (f (sp.toNatClampNeg + i))) = true) (eh : hp' = va_up hp a1 (some (.inl (g.2.1 t0, n1, .inr (.inl (va_cpy f f2 sp.toNatClampNeg dp.toNatClampNeg n.toNatClampNeg))))))
    (hframes : 1 ≤ R.frames) (hlocals : (rest.map fun v => v.category).sum + (nativeFrameWords "java/lang/System" "arraycopy" 5 + 11) ≤ R.locals) (hdg : decode cc pc = .ok (.invokestatic idx, 3))
    (kk : ∀ (H1 : Heap) (locs1 : List Loc), zHd g hp' H1 → H1.size = nx → va_S (zAd g) s.heap H1 locs1 → W p l e R s m args below meth c H1 locs1 kc ks Q (F0 m (pc + 3) ls rest)) : W p l e R s m args below meth c H locs kc ks Q (F0 m pc ls (.int n :: .int dp :: va_rf r1 :: .int sp :: va_rf r0 :: rest)) := by
  subst er0; subst er1; subst eh; subst hz
  obtain ⟨⟨hexec, hb, hml, hown, hts⟩, hK, -, hB, -⟩ := hk
  have nn : ∀ z : Int32, ¬ z < 0 → z.toInt = (z.toNatClampNeg : Int) := by
    intro z hz
    have hz0 : (0 : Int) ≤ z.toInt := by
      have := Int32.not_lt.mp hz
      simpa using Int32.le_iff_toInt_le.mp this
    show z.toInt = ((z.toInt.toNat : Nat) : Int)
    omega
  intro T hT X
  have hc0 : H[a]? = some (vp_cell (g.2.1 t0) (n0, .inr (.inl f))) := hH a _ he0
  have hc1 : H[a1]? = some (vp_cell (g.2.1 t0) (n1, .inr (.inl f2))) := hH a1 _ he1
  obtain ⟨-, k0, hk0, cm0, hkk0⟩ := (hK.2 t0 _ ht).1 n0 (fun j => .long (f j))
  obtain ⟨-, k1, hk1, cm1, hkk1⟩ := (hK.2 t0 _ ht).1 n1 (fun j => .long (f2 j))
  obtain ⟨vm', X', step⟩ := X.arraycopy hexec hown (hts _ q1) (hts _ q2) (hts _ q3) (hts _ q4) (src := a) (dst := a1) (cs := vp_cell (g.2.1 t0) (n0, .inr (.inl f))) (cd := vp_cell (g.2.1 t0) (n1, .inr (.inl f2))) (srcPos := sp) (destPos := dp) (n := n) (by rw [hT]; exact hc0) (by rw [hT]; exact hc1)
    (fun _ h => by cases h) (fun _ h => by cases h) (fun h => by cases h) (fun h => by cases h) hk0 hk1 hkk0 hkk1 (by simp [hprim]) h1 h2 h3
    (by rw [nn sp h1, nn n h3]; show ¬ _ > ((arrV (g.2.1 t0) n0 (fun j => .long (f j))).slots.size : Int); rw [arrV_size]; omega)
    (by rw [nn dp h2, nn n h3]; show ¬ _ > ((arrV (g.2.1 t0) n1 (fun j => .long (f2 j))).slots.size : Int); rw [arrV_size]; omega)
    (fun vm₁ _ i hi => by
      have e : (vp_cell (g.2.1 t0) (n0, .inr (.inl f))).slots.getD (sp.toNatClampNeg + i) .null = .long (f (sp.toNatClampNeg + i)) := by
        show (arrV (g.2.1 t0) n0 (fun j => .long (f j))).slots.getD _ _ = _
        rw [Array.getD_eq_getD_getElem?, arrV_read _ _ (by omega)]
        rfl
      refine ⟨?_, ?_⟩
      · rw [e]
        exact hfit i hi
      · rw [e]
        exact trivial)
    (g := F0 m pc ls (.int n :: .int dp :: .ref a1 :: .int sp :: .ref a :: rest)) rfl (by rw [hml]; exact hl) (rest := rest) rfl (by rw [hb]; exact hdg) hframes (by show 2 * 0 + _ + _ ≤ _; omega)
  have e1 : copied (vp_cell (g.2.1 t0) (n0, .inr (.inl f))) (vp_cell (g.2.1 t0) (n1, .inr (.inl f2))) sp dp n = vp_cell (g.2.1 t0) (n1, .inr (.inl (va_cpy f f2 sp.toNatClampNeg dp.toNatClampNeg n.toNatClampNeg))) := va_copied (fun z => .long z) (g.2.1 t0) (g.2.1 t0) f f2 h4
  rw [e1] at X' step
  have hl2 : a1 < H.size := (Array.getElem?_eq_some_iff.mp hc1).1
  have hheap : ((T.setVm vm').setCell a1 (vp_cell (g.2.1 t0) (n1, .inr (.inl (va_cpy f f2 sp.toNatClampNeg dp.toNatClampNeg n.toNatClampNeg))))).heap = H.setIfInBounds a1 (vp_cell (g.2.1 t0) (n1, .inr (.inl (va_cpy f f2 sp.toNatClampNeg dp.toNatClampNeg n.toNatClampNeg)))) := by rw [← hT]; rfl
  have oq : ∀ q : Nat, q ≠ a1 → (H.setIfInBounds a1 (vp_cell (g.2.1 t0) (n1, .inr (.inl (va_cpy f f2 sp.toNatClampNeg dp.toNatClampNeg n.toNatClampNeg)))))[q]? = H[q]? := fun q hq => by simp [Array.getElem?_setIfInBounds, Ne.symm hq]
  obtain ⟨t, b1, b2⟩ := kk _ _ (hH.set (show (H.setIfInBounds a1 _)[a1]? = some _ by simp [Array.getElem?_setIfInBounds, hl2]) oq) (by simp) ⟨by simp; exact hS.1, fun q g1 g2 => by
      rw [oq q (fun e => g2 (by rw [e]; exact hA))]
      exact hS.2.1 q g1 g2, fun q hq => by
      rcases List.mem_append.mp hq with h | h
      · exact hS.2.2 q h
      · obtain ⟨z, -, hz⟩ := List.mem_map.mp h
        rw [← hz]
        exact hA⟩ _ hheap X'
  exact ⟨t, step t b1, b2⟩
end ZY
