set_option maxRecDepth 100000
section ZX
variable {p : Program} {l : Launch} {e : Env} {R : Room} {s : State} {m : MethodId} {args : Array Value} {below : List Frame} {meth : Method} {c : Code} {H : Heap} {locs : List Loc} {kc ks : Nat} {Q : State → Prop}
variable {cc : ByteArray} {pc : Nat} {ls : Array Slot} {rest : List Value} {g : zG} {own : String} {nL : Nat} {hp hp' : zHp} {nx : Nat} {a : Nat} {r : Option Nat}
variable {y : MethodName} {c2 : ByteArray} {L d mc ms n idx : Nat} {ret : Option FieldType} {Qc : Array Value → State → Outcome → State → Prop} {C : String} {b0 : Nat} {As st0 : List Value}
theorem zw_iald (hk : zK p s m args meth c g cc own nL) (hH : zHd g hp H) {n : Nat} {f : Nat → Int32} {i : Int32} (er : r = some a) (he : hp a = some (.inl (g.2.1 0, n, .inl f))) (hin : vp_in i n) (hdg : decode cc pc = .ok (.iaload, 1))
    (kk : W p l e R s m args below meth c H locs kc ks Q (F0 m (pc + 1) ls (.int (f i.toNatClampNeg) :: rest))) : W p l e R s m args below meth c H locs kc ks Q (F0 m pc ls (.int i :: va_rf r :: rest)) := by
  subst er
  exact zr_iald hk hH he hin hdg kk
theorem zw_bald (hk : zK p s m args meth c g cc own nL) (hH : zHd g hp H) {n : Nat} {f : Nat → Int32} {i : Int32} (er : r = some a) (he : hp a = some (.inl (g.2.1 2, n, .inl f))) (hin : vp_in i n) (hdg : decode cc pc = .ok (.baload, 1))
    (kk : W p l e R s m args below meth c H locs kc ks Q (F0 m (pc + 1) ls (.int (f i.toNatClampNeg) :: rest))) : W p l e R s m args below meth c H locs kc ks Q (F0 m pc ls (.int i :: va_rf r :: rest)) := by
  subst er
  exact zr_bald hk hH he hin hdg kk
theorem zw_zald (hk : zK p s m args meth c g cc own nL) (hH : zHd g hp H) {n : Nat} {f : Nat → Int32} {i : Int32} (er : r = some a) (he : hp a = some (.inl (g.2.1 3, n, .inl f))) (hin : vp_in i n) (hdg : decode cc pc = .ok (.baload, 1))
    (kk : W p l e R s m args below meth c H locs kc ks Q (F0 m (pc + 1) ls (.int (f i.toNatClampNeg) :: rest))) : W p l e R s m args below meth c H locs kc ks Q (F0 m pc ls (.int i :: va_rf r :: rest)) := by
  subst er
  exact zr_zald hk hH he hin hdg kk
theorem zw_lald (hk : zK p s m args meth c g cc own nL) (hH : zHd g hp H) {n : Nat} {f : Nat → Int64} {i : Int32} (er : r = some a) (he : hp a = some (.inl (g.2.1 4, n, .inr (.inl f)))) (hin : vp_in i n) (hdg : decode cc pc = .ok (.laload, 1))
    (kk : W p l e R s m args below meth c H locs kc ks Q (F0 m (pc + 1) ls (.long (f i.toNatClampNeg) :: rest))) : W p l e R s m args below meth c H locs kc ks Q (F0 m pc ls (.int i :: va_rf r :: rest)) := by
  subst er
  exact zr_lald hk hH he hin hdg kk
theorem zw_fald (hk : zK p s m args meth c g cc own nL) (hH : zHd g hp H) {n : Nat} {f : Nat → UInt32} {i : Int32} (er : r = some a) (he : hp a = some (.inl (g.2.1 5, n, .inr (.inr (.inl f))))) (hin : vp_in i n) (hdg : decode cc pc = .ok (.faload, 1))
    (kk : W p l e R s m args below meth c H locs kc ks Q (F0 m (pc + 1) ls (.float (f i.toNatClampNeg) :: rest))) : W p l e R s m args below meth c H locs kc ks Q (F0 m pc ls (.int i :: va_rf r :: rest)) := by
  subst er
  exact zr_fald hk hH he hin hdg kk
theorem zw_dald (hk : zK p s m args meth c g cc own nL) (hH : zHd g hp H) {n : Nat} {f : Nat → UInt64} {i : Int32} (er : r = some a) (he : hp a = some (.inl (g.2.1 1, n, .inr (.inr (.inr (.inl f)))))) (hin : vp_in i n) (hdg : decode cc pc = .ok (.daload, 1))
    (kk : W p l e R s m args below meth c H locs kc ks Q (F0 m (pc + 1) ls (.double (f i.toNatClampNeg) :: rest))) : W p l e R s m args below meth c H locs kc ks Q (F0 m pc ls (.int i :: va_rf r :: rest)) := by
  subst er
  exact zr_dald hk hH he hin hdg kk
theorem zw_aald (hk : zK p s m args meth c g cc own nL) (hH : zHd g hp H) (t0 : Nat) {ty : FieldType} {n : Nat} {f : Nat → Option Nat} {i : Int32} (er : r = some a) (he : hp a = some (.inl (g.2.1 t0, n, .inr (.inr (.inr (.inr f)))))) (ht : (zty g.2.1)[t0]? = some (g.2.1 t0, ty)) (hty : ty.isReference = true) (hin : vp_in i n) (hdg : decode cc pc = .ok (.aaload, 1))
    (kk : W p l e R s m args below meth c H locs kc ks Q (F0 m (pc + 1) ls (va_rf (f i.toNatClampNeg) :: rest))) : W p l e R s m args below meth c H locs kc ks Q (F0 m pc ls (.int i :: va_rf r :: rest)) := by
  subst er
  exact zr_aald hk hH t0 he ht hty hin hdg kk
theorem zw_alen (hk : zK p s m args meth c g cc own nL) (hH : zHd g hp H) (t0 : Nat) {x : vp_A} {ty : FieldType} (er : r = some a) (he : hp a = some (.inl (g.2.1 t0, x))) (ht : (zty g.2.1)[t0]? = some (g.2.1 t0, ty)) (hdg : decode cc pc = .ok (.arraylength, 1))
    (kk : W p l e R s m args below meth c H locs kc ks Q (F0 m (pc + 1) ls (.int (Int32.ofNat x.1) :: rest))) : W p l e R s m args below meth c H locs kc ks Q (F0 m pc ls (va_rf r :: rest)) := by
  subst er
  exact zr_alen hk hH t0 he ht hdg kk
theorem zw_iast (hk : zK p s m args meth c g cc own nL) (hH : zHd g hp H) (hz : H.size = nx) (hS : va_S (zAd g) s.heap H locs) {n : Nat} {f : Nat → Int32} {i : Int32} {x : Int32} (er : r = some a) (he : hp a = some (.inl (g.2.1 0, n, .inl f))) (hin : vp_in i n) (hA : zB g ≤ a) (eh : hp' = va_up hp a (some (.inl (g.2.1 0, n, .inl (va_up f i.toNatClampNeg x))))) (hdg : decode cc pc = .ok (.iastore, 1))
    (kk : ∀ (H1 : Heap) (locs1 : List Loc), zHd g hp' H1 → H1.size = nx → va_S (zAd g) s.heap H1 locs1 → W p l e R s m args below meth c H1 locs1 kc ks Q (F0 m (pc + 1) ls rest)) : W p l e R s m args below meth c H locs kc ks Q (F0 m pc ls (.int x :: .int i :: va_rf r :: rest)) := by
  subst er
  subst eh
  exact zr_iast hk hH hz hS he hin hA hdg kk
theorem zw_bast (hk : zK p s m args meth c g cc own nL) (hH : zHd g hp H) (hz : H.size = nx) (hS : va_S (zAd g) s.heap H locs) {n : Nat} {f : Nat → Int32} {i : Int32} {x : Int32} (er : r = some a) (he : hp a = some (.inl (g.2.1 2, n, .inl f))) (hin : vp_in i n) (hA : zB g ≤ a) (eh : hp' = va_up hp a (some (.inl (g.2.1 2, n, .inl (va_up f i.toNatClampNeg (vp_nar .byte x)))))) (hdg : decode cc pc = .ok (.bastore, 1))
    (kk : ∀ (H1 : Heap) (locs1 : List Loc), zHd g hp' H1 → H1.size = nx → va_S (zAd g) s.heap H1 locs1 → W p l e R s m args below meth c H1 locs1 kc ks Q (F0 m (pc + 1) ls rest)) : W p l e R s m args below meth c H locs kc ks Q (F0 m pc ls (.int x :: .int i :: va_rf r :: rest)) := by
  subst er
  subst eh
  exact zr_bast hk hH hz hS he hin hA hdg kk
theorem zw_zast (hk : zK p s m args meth c g cc own nL) (hH : zHd g hp H) (hz : H.size = nx) (hS : va_S (zAd g) s.heap H locs) {n : Nat} {f : Nat → Int32} {i : Int32} {x : Int32} (er : r = some a) (he : hp a = some (.inl (g.2.1 3, n, .inl f))) (hin : vp_in i n) (hA : zB g ≤ a) (eh : hp' = va_up hp a (some (.inl (g.2.1 3, n, .inl (va_up f i.toNatClampNeg (vp_nar .boolean x)))))) (hdg : decode cc pc = .ok (.bastore, 1))
    (kk : ∀ (H1 : Heap) (locs1 : List Loc), zHd g hp' H1 → H1.size = nx → va_S (zAd g) s.heap H1 locs1 → W p l e R s m args below meth c H1 locs1 kc ks Q (F0 m (pc + 1) ls rest)) : W p l e R s m args below meth c H locs kc ks Q (F0 m pc ls (.int x :: .int i :: va_rf r :: rest)) := by
  subst er
  subst eh
  exact zr_zast hk hH hz hS he hin hA hdg kk
theorem zw_last (hk : zK p s m args meth c g cc own nL) (hH : zHd g hp H) (hz : H.size = nx) (hS : va_S (zAd g) s.heap H locs) {n : Nat} {f : Nat → Int64} {i : Int32} {x : Int64} (er : r = some a) (he : hp a = some (.inl (g.2.1 4, n, .inr (.inl f)))) (hin : vp_in i n) (hA : zB g ≤ a) (eh : hp' = va_up hp a (some (.inl (g.2.1 4, n, .inr (.inl (va_up f i.toNatClampNeg x)))))) (hdg : decode cc pc = .ok (.lastore, 1))
    (kk : ∀ (H1 : Heap) (locs1 : List Loc), zHd g hp' H1 → H1.size = nx → va_S (zAd g) s.heap H1 locs1 → W p l e R s m args below meth c H1 locs1 kc ks Q (F0 m (pc + 1) ls rest)) : W p l e R s m args below meth c H locs kc ks Q (F0 m pc ls (.long x :: .int i :: va_rf r :: rest)) := by
  subst er
  subst eh
  exact zr_last hk hH hz hS he hin hA hdg kk
theorem zw_fast (hk : zK p s m args meth c g cc own nL) (hH : zHd g hp H) (hz : H.size = nx) (hS : va_S (zAd g) s.heap H locs) {n : Nat} {f : Nat → UInt32} {i : Int32} {x : UInt32} (er : r = some a) (he : hp a = some (.inl (g.2.1 5, n, .inr (.inr (.inl f))))) (hin : vp_in i n) (hA : zB g ≤ a) (eh : hp' = va_up hp a (some (.inl (g.2.1 5, n, .inr (.inr (.inl (va_up f i.toNatClampNeg x))))))) (hdg : decode cc pc = .ok (.fastore, 1))
    (kk : ∀ (H1 : Heap) (locs1 : List Loc), zHd g hp' H1 → H1.size = nx → va_S (zAd g) s.heap H1 locs1 → W p l e R s m args below meth c H1 locs1 kc ks Q (F0 m (pc + 1) ls rest)) : W p l e R s m args below meth c H locs kc ks Q (F0 m pc ls (.float x :: .int i :: va_rf r :: rest)) := by
  subst er
  subst eh
  exact zr_fast hk hH hz hS he hin hA hdg kk
theorem zw_dast (hk : zK p s m args meth c g cc own nL) (hH : zHd g hp H) (hz : H.size = nx) (hS : va_S (zAd g) s.heap H locs) {n : Nat} {f : Nat → UInt64} {i : Int32} {x : UInt64} (er : r = some a) (he : hp a = some (.inl (g.2.1 1, n, .inr (.inr (.inr (.inl f)))))) (hin : vp_in i n) (hA : zB g ≤ a) (eh : hp' = va_up hp a (some (.inl (g.2.1 1, n, .inr (.inr (.inr (.inl (va_up f i.toNatClampNeg x)))))))) (hdg : decode cc pc = .ok (.dastore, 1))
    (kk : ∀ (H1 : Heap) (locs1 : List Loc), zHd g hp' H1 → H1.size = nx → va_S (zAd g) s.heap H1 locs1 → W p l e R s m args below meth c H1 locs1 kc ks Q (F0 m (pc + 1) ls rest)) : W p l e R s m args below meth c H locs kc ks Q (F0 m pc ls (.double x :: .int i :: va_rf r :: rest)) := by
  subst er
  subst eh
  exact zr_dast hk hH hz hS he hin hA hdg kk
theorem zw_runV (hk : zK p s m args meth c g cc own nL) (hH : zHd g hp H) (hz : H.size = nx) (hS : va_S (zAd g) s.heap H locs) (hl : ls.size = nL) (er : r = some b0) (hM : zMt l g y c2 L ret d mc ms (.ref b0 :: As) hp nx Qc) (cw : CallW R s args own C idx y c2 L ret (ws_ y c2 L ret) (zrm d mc ms) mc ms n) {ci : Nat} {fs : List Value} {T : u_T} {N : Nat} (hr : hp b0 = some (.inr (ci, fs))) (hc : zcl[ci]? = some (C, T, N))
    (hn : As.length = n) (hst : st0 = As.reverse ++ va_rf r :: rest) (hW : (rest.map fun v => v.category).sum ≤ 8) (hdg : decode cc pc = .ok (.invokevirtual idx, 3)) (hf : kc + mc ≤ R.cells ∧ ks + ms ≤ R.slots) : va_Run p l e R s m args below meth c H locs kc ks mc ms (F0 m pc ls st0) rest (Qc (Value.ref b0 :: As).toArray) (zAd g) := by
  subst er
  exact zr_runV hk hH hz hS hl hM cw hr hc hn hst hW hdg hf
theorem zw_runU (hk : zK p s m args meth c g cc own nL) (hH : zHd g hp H) (hz : H.size = nx) (hS : va_S (zAd g) s.heap H locs) (hl : ls.size = nL) (er : r = some b0) (hM : zMt l g y c2 L ret d mc ms (.ref b0 :: As) hp nx Qc) {owner : String} {x : MethodName} (cw : va_CU R s args own C owner idx x y c2 L ret (ws_ y c2 L ret) (zrm d mc ms) mc ms n) {ci : Nat} {fs : List Value} {T : u_T} {N : Nat} (hr : hp b0 = some (.inr (ci, fs))) (hc : zcl[ci]? = some (C, T, N))
    (hn : As.length = n) (hst : st0 = As.reverse ++ va_rf r :: rest) (hW : (rest.map fun v => v.category).sum ≤ 8) (hdg : decode cc pc = .ok (.invokevirtual idx, 3)) (hf : kc + mc ≤ R.cells ∧ ks + ms ≤ R.slots) : va_Run p l e R s m args below meth c H locs kc ks mc ms (F0 m pc ls st0) rest (Qc (Value.ref b0 :: As).toArray) (zAd g) := by
  subst er
  exact zr_runU hk hH hz hS hl hM cw hr hc hn hst hW hdg hf
theorem zw_runVN (hk : zK p s m args meth c g cc own nL) (hH : zHd g hp H) (hz : H.size = nx) (hS : va_S (zAd g) s.heap H locs) (hl : ls.size = nL) (er : r = some b0) (hM : zMt l g y c2 L ret d mc ms (.ref b0 :: As) hp nx Qc) {host : String} (cw : va_CN R s args own idx y host c2 L ret (ws_ y c2 L ret) (zrm d mc ms) mc ms n ∧ (Cond.instanceMethod y).before args s = true ∧ (Cond.selects C y y).before args s = true) {ci : Nat} {fs : List Value} {T : u_T} {N : Nat} (hr : hp b0 = some (.inr (ci, fs))) (hc : zcl[ci]? = some (C, T, N))
    (hn : As.length = n) (hst : st0 = As.reverse ++ va_rf r :: rest) (hW : (rest.map fun v => v.category).sum ≤ 8) (hdg : decode cc pc = .ok (.invokevirtual idx, 3)) (hf : kc + mc ≤ R.cells ∧ ks + ms ≤ R.slots) : va_Run p l e R s m args below meth c H locs kc ks mc ms (F0 m pc ls st0) rest (Qc (Value.ref b0 :: As).toArray) (zAd g) := by
  subst er
  exact zr_runVN hk hH hz hS hl hM cw hr hc hn hst hW hdg hf
theorem zw_runI (hk : zK p s m args meth c g cc own nL) (hH : zHd g hp H) (hz : H.size = nx) (hS : va_S (zAd g) s.heap H locs) (hl : ls.size = nL) (er : r = some b0) (hM : zMt l g y c2 L none d mc ms (.ref b0 :: As) hp nx Qc) (cw : CallB R s args own idx y c2 L none (ws_ y c2 L none) (zrm d mc ms) mc ms n ∧ y.name = "<init>" ∧ (Cond.instanceMethod y).before args s = true)
    (hn : As.length = n) (hst : st0 = As.reverse ++ va_rf r :: rest) (hW : (rest.map fun v => v.category).sum ≤ 8) (hdg : decode cc pc = .ok (.invokespecial idx, 3)) (hf : kc + mc ≤ R.cells ∧ ks + ms ≤ R.slots) : va_Run p l e R s m args below meth c H locs kc ks mc ms (F0 m pc ls st0) rest (Qc (Value.ref b0 :: As).toArray) (zAd g) := by
  subst er
  exact zr_runI hk hH hz hS hl hM cw hn hst hW hdg hf
theorem zw_runIN (hk : zK p s m args meth c g cc own nL) (hH : zHd g hp H) (hz : H.size = nx) (hS : va_S (zAd g) s.heap H locs) (hl : ls.size = nL) (er : r = some b0) (hM : zMt l g y c2 L none d mc ms (.ref b0 :: As) hp nx Qc) {host : String} (cw : va_CN R s args own idx y host c2 L none (ws_ y c2 L none) (zrm d mc ms) mc ms n ∧ y.name = "<init>" ∧ (Cond.instanceMethod y).before args s = true)
    (hn : As.length = n) (hst : st0 = As.reverse ++ va_rf r :: rest) (hW : (rest.map fun v => v.category).sum ≤ 8) (hdg : decode cc pc = .ok (.invokespecial idx, 3)) (hf : kc + mc ≤ R.cells ∧ ks + ms ≤ R.slots) : va_Run p l e R s m args below meth c H locs kc ks mc ms (F0 m pc ls st0) rest (Qc (Value.ref b0 :: As).toArray) (zAd g) := by
  subst er
  exact va_runIN hk.1 hM cw ⟨zSt.blind, fun U hU hW' => ⟨rfl, hk.st hH hz hS hU hW'⟩⟩ rfl hn hl hst (lv_room hW) hdg hf
theorem zw_runSU (hk : zK p s m args meth c g cc own nL) (hH : zHd g hp H) (hz : H.size = nx) (hS : va_S (zAd g) s.heap H locs) (hl : ls.size = nL) (er : r = some b0) (hM : zMt l g y c2 L ret d mc ms (.ref b0 :: As) hp nx Qc) (cw : va_CS R s args own idx y c2 L ret (ws_ y c2 L ret) (zrm d mc ms) mc ms n) {ci : Nat} {fs : List Value} {T : u_T} {N : Nat} (hr : hp b0 = some (.inr (ci, fs))) (hc : zcl[ci]? = some (C, T, N))
    (hn : As.length = n) (hst : st0 = As.reverse ++ va_rf r :: rest) (hW : (rest.map fun v => v.category).sum ≤ 8) (hdg : decode cc pc = .ok (.invokespecial idx, 3)) (hf : kc + mc ≤ R.cells ∧ ks + ms ≤ R.slots) : va_Run p l e R s m args below meth c H locs kc ks mc ms (F0 m pc ls st0) rest (Qc (Value.ref b0 :: As).toArray) (zAd g) := by
  subst er
  exact va_runSU (hk.2.1.1 ci _ hc).2 hk.1 hM cw ⟨zSt.blind, va_recv hk.2.1 (hH.P hr) hc (q0 := 0) rfl, fun U hU hW' => ⟨rfl, hk.st hH hz hS hU hW'⟩⟩ rfl hn hl hst (lv_room hW) hdg hf
end ZX
theorem z_room {d L : Nat} (h : L ≤ 45) : d + 1 ≤ d + 1 ∧ 8 + (L + 11) + 64 * d ≤ 64 * (d + 1) := ⟨Nat.le_refl _, by omega⟩
theorem z_lw5 {w1 w2 w3 w4 w5 : Cond} (h1 : w1 ∈ lw_all) (h2 : w2 ∈ lw_all) (h3 : w3 ∈ lw_all) (h4 : w4 ∈ lw_all) (h5 : w5 ∈ lw_all) : ∀ w ∈ [w1, w2, w3, w4, w5], w ∈ lw_all := by
  intro w hw
  simp only [List.mem_cons, List.not_mem_nil, or_false] at hw
  rcases hw with e | e | e | e | e <;> (rw [e]; assumption)
theorem z_lw6 {w1 w2 w3 w4 w5 w6 : Cond} (h1 : w1 ∈ lw_all) (h2 : w2 ∈ lw_all) (h3 : w3 ∈ lw_all) (h4 : w4 ∈ lw_all) (h5 : w5 ∈ lw_all) (h6 : w6 ∈ lw_all) : ∀ w ∈ [w1, w2, w3, w4, w5, w6], w ∈ lw_all := by
  intro w hw
  simp only [List.mem_cons, List.not_mem_nil, or_false] at hw
  rcases hw with e | e | e | e | e | e <;> (rw [e]; assumption)
theorem z_U {own C owner : String} {idx L : Nat} {x y : MethodName} {b : ByteArray} {r : Option FieldType} (h1 : Cond.methodLink own idx x ∈ lw_all) (h2 : Cond.sameMethod x.cls owner x.name x.desc ∈ lw_all) (h3 : Cond.selects C x y ∈ lw_all) (h4 : Cond.instanceMethod y ∈ lw_all) (h5 : Cond.initialized y.cls ∈ lw_all) (h6 : Cond.code y b L r ∈ lw_all) : GoodIn lw_all (va_wsU own idx C owner x y (ws_ y b L r)) := lw_app (z_lw5 h1 h2 h3 h4 h5) (lw_meth h6)
theorem z_O {own C owner : String} {idx L : Nat} {x y : MethodName} {b : ByteArray} {r : Option FieldType} (h1 : Cond.methodLink own idx x ∈ lw_all) (h2 : Cond.sameMethod x.cls owner x.name x.desc ∈ lw_all) (h0 : Cond.instanceMethod ⟨owner, x.name, x.desc⟩ ∈ lw_all) (h3 : Cond.selects C x y ∈ lw_all) (h4 : Cond.instanceMethod y ∈ lw_all) (h5 : Cond.initialized y.cls ∈ lw_all) (h6 : Cond.code y b L r ∈ lw_all) : GoodIn lw_all (va_wsO own idx C owner x y (ws_ y b L r)) := lw_app (z_lw6 h1 h2 h0 h3 h4 h5) (lw_meth h6)
theorem z_SU {own : String} {idx L : Nat} {y : MethodName} {b : ByteArray} {r : Option FieldType} (h1 : Cond.methodLink own idx y ∈ lw_all) (h2 : Cond.sameMethod y.cls y.cls y.name y.desc ∈ lw_all) (h3 : Cond.superclass own y.cls ∈ lw_all) (h4 : Cond.instanceMethod y ∈ lw_all) (h5 : Cond.initialized y.cls ∈ lw_all) (h6 : Cond.code y b L r ∈ lw_all) : GoodIn lw_all (va_wsSU own idx y (ws_ y b L r)) := lw_app (z_lw5 h1 h2 h3 h4 h5) (lw_meth h6)

