set_option maxRecDepth 100000
/-! the machine's own exceptions: their words, their texts, the rows that throw them -/
/-- the words of a machine's throw stand in the tables -/
def zVw (E : String) (names : List String) : Prop :=
  Bundle.fit E = true ∧ (∀ n ∈ names, Bundle.fit n = true) ∧ (E == "java/lang/StackOverflowError") = false ∧ (E == "java/lang/OutOfMemoryError") = false ∧ names.length ≤ 3 ∧ ∀ w ∈ vx_atM E names, w ∈ lw_all ∨ (w ∈ lw_tbl ∧ zwk w = true)
theorem zVw_AI : zVw "java/lang/ArrayIndexOutOfBoundsException" ["java/lang/IndexOutOfBoundsException", "java/lang/RuntimeException", "java/lang/Exception"] := by
  refine ⟨by decide +kernel, by decide +kernel, by decide +kernel, by decide +kernel, by decide, ?_⟩
  intro w hw
  obtain ⟨h, hn⟩ := List.mem_filter.mp hw
  simp only [Bundle.messageArmAtoms, Bundle.throwableAtoms, Bundle.throwableSAtoms, Bundle.chainSAtoms, Bundle.passSAtoms, Bundle.stringAtoms, List.cons_append, List.nil_append, List.append_nil, List.mem_cons, List.not_mem_nil, or_false] at h
  rcases h with rfl | rfl | rfl | rfl | rfl | rfl | rfl | rfl | rfl | rfl | rfl | rfl | rfl | rfl | rfl | rfl | rfl | rfl | rfl | rfl | rfl | rfl | rfl | rfl | rfl | rfl | rfl | rfl | rfl | rfl | rfl | rfl | rfl | rfl | rfl | rfl | rfl | rfl | rfl | rfl | rfl | rfl | rfl | rfl | rfl | rfl | rfl | rfl | rfl | rfl | rfl | rfl | rfl | rfl | rfl | rfl | rfl | rfl | rfl | rfl | rfl | rfl | rfl | rfl | rfl | rfl | rfl | rfl | rfl
  · exact Or.inl q134
  · exact Or.inl q307
  · exact Or.inl q316
  · exact Or.inl q325
  · exact Or.inl q328
  · exact Or.inl q330
  · exact Or.inl q308
  · exact Or.inl q309
  · exact Or.inl q206
  · exact Or.inl q207
  · exact Or.inl q310
  · exact Or.inl q315
  · exact Or.inl q326
  · exact Or.inl q361
  · exact Or.inl q297
  · exact Or.inl q362
  · exact Or.inl q299
  · exact Or.inl q363
  · exact Or.inl q301
  · exact Or.inl q311
  · exact absurd hn (by decide +kernel)
  · exact Or.inl q313
  · exact absurd hn (by decide +kernel)
  · exact Or.inl q303
  · exact Or.inl q604
  · exact Or.inl q605
  · exact Or.inl q360
  · exact Or.inl q303
  · exact Or.inl q2411
  · exact Or.inl q2412
  · exact Or.inl q2413
  · exact Or.inl q719
  · exact Or.inr ⟨q2423, rfl⟩
  · exact Or.inl q719
  · exact Or.inl q720
  · exact Or.inl q721
  · exact Or.inl q598
  · exact Or.inr ⟨q289, rfl⟩
  · exact Or.inl q598
  · exact Or.inl q599
  · exact Or.inl q600
  · exact Or.inl q601
  · exact Or.inr ⟨q291, rfl⟩
  · exact Or.inl q601
  · exact Or.inl q602
  · exact Or.inl q603
  · exact Or.inl q604
  · exact Or.inr ⟨q293, rfl⟩
  · exact Or.inl q140
  · exact Or.inl q537
  · exact Or.inl q276
  · exact Or.inl q585
  · exact Or.inl q587
  · exact Or.inl q586
  · exact Or.inl q588
  · exact Or.inl q197
  · exact Or.inl q2410
  · exact Or.inr ⟨q2421, rfl⟩
  · exact Or.inl q2424
  · exact Or.inl q320
  · exact Or.inl q2416
  · exact Or.inl q2417
  · exact Or.inl q2419
  · exact Or.inl q2415
  · exact absurd hn (by decide +kernel)
  · exact absurd hn (by decide +kernel)
  · exact Or.inl q359
  · exact Or.inl q305
  · exact Or.inl q2414
theorem zVw_NS : zVw "java/lang/NegativeArraySizeException" ["java/lang/RuntimeException", "java/lang/Exception"] := by
  refine ⟨by decide +kernel, by decide +kernel, by decide +kernel, by decide +kernel, by decide, ?_⟩
  intro w hw
  obtain ⟨h, hn⟩ := List.mem_filter.mp hw
  simp only [Bundle.messageArmAtoms, Bundle.throwableAtoms, Bundle.throwableSAtoms, Bundle.chainSAtoms, Bundle.passSAtoms, Bundle.stringAtoms, List.cons_append, List.nil_append, List.append_nil, List.mem_cons, List.not_mem_nil, or_false] at h
  rcases h with rfl | rfl | rfl | rfl | rfl | rfl | rfl | rfl | rfl | rfl | rfl | rfl | rfl | rfl | rfl | rfl | rfl | rfl | rfl | rfl | rfl | rfl | rfl | rfl | rfl | rfl | rfl | rfl | rfl | rfl | rfl | rfl | rfl | rfl | rfl | rfl | rfl | rfl | rfl | rfl | rfl | rfl | rfl | rfl | rfl | rfl | rfl | rfl | rfl | rfl | rfl | rfl | rfl | rfl | rfl | rfl | rfl | rfl | rfl | rfl | rfl | rfl | rfl | rfl
  · exact Or.inl q134
  · exact Or.inl q307
  · exact Or.inl q316
  · exact Or.inl q325
  · exact Or.inl q328
  · exact Or.inl q330
  · exact Or.inl q308
  · exact Or.inl q309
  · exact Or.inl q206
  · exact Or.inl q207
  · exact Or.inl q310
  · exact Or.inl q315
  · exact Or.inl q326
  · exact Or.inl q361
  · exact Or.inl q297
  · exact Or.inl q362
  · exact Or.inl q299
  · exact Or.inl q363
  · exact Or.inl q301
  · exact Or.inl q311
  · exact absurd hn (by decide +kernel)
  · exact Or.inl q313
  · exact absurd hn (by decide +kernel)
  · exact Or.inl q303
  · exact Or.inl q604
  · exact Or.inl q605
  · exact Or.inl q360
  · exact Or.inl q303
  · exact Or.inl q595
  · exact Or.inl q596
  · exact Or.inl q597
  · exact Or.inl q598
  · exact Or.inr ⟨q289, rfl⟩
  · exact Or.inl q598
  · exact Or.inl q599
  · exact Or.inl q600
  · exact Or.inl q601
  · exact Or.inr ⟨q291, rfl⟩
  · exact Or.inl q601
  · exact Or.inl q602
  · exact Or.inl q603
  · exact Or.inl q604
  · exact Or.inr ⟨q293, rfl⟩
  · exact Or.inl q140
  · exact Or.inl q537
  · exact Or.inl q276
  · exact Or.inl q585
  · exact Or.inl q587
  · exact Or.inl q586
  · exact Or.inl q588
  · exact Or.inl q137
  · exact Or.inl q286
  · exact Or.inr ⟨q287, rfl⟩
  · exact Or.inl q294
  · exact Or.inl q295
  · exact Or.inl q296
  · exact Or.inl q298
  · exact Or.inl q300
  · exact Or.inl q302
  · exact absurd hn (by decide +kernel)
  · exact absurd hn (by decide +kernel)
  · exact Or.inl q359
  · exact Or.inl q305
  · exact Or.inl q304
theorem zVw_CC : zVw "java/lang/ClassCastException" ["java/lang/RuntimeException", "java/lang/Exception"] := by
  refine ⟨by decide +kernel, by decide +kernel, by decide +kernel, by decide +kernel, by decide, ?_⟩
  intro w hw
  obtain ⟨h, hn⟩ := List.mem_filter.mp hw
  simp only [Bundle.messageArmAtoms, Bundle.throwableAtoms, Bundle.throwableSAtoms, Bundle.chainSAtoms, Bundle.passSAtoms, Bundle.stringAtoms, List.cons_append, List.nil_append, List.append_nil, List.mem_cons, List.not_mem_nil, or_false] at h
  rcases h with rfl | rfl | rfl | rfl | rfl | rfl | rfl | rfl | rfl | rfl | rfl | rfl | rfl | rfl | rfl | rfl | rfl | rfl | rfl | rfl | rfl | rfl | rfl | rfl | rfl | rfl | rfl | rfl | rfl | rfl | rfl | rfl | rfl | rfl | rfl | rfl | rfl | rfl | rfl | rfl | rfl | rfl | rfl | rfl | rfl | rfl | rfl | rfl | rfl | rfl | rfl | rfl | rfl | rfl | rfl | rfl | rfl | rfl | rfl | rfl | rfl | rfl | rfl | rfl
  · exact Or.inl q134
  · exact Or.inl q307
  · exact Or.inl q316
  · exact Or.inl q325
  · exact Or.inl q328
  · exact Or.inl q330
  · exact Or.inl q308
  · exact Or.inl q309
  · exact Or.inl q206
  · exact Or.inl q207
  · exact Or.inl q310
  · exact Or.inl q315
  · exact Or.inl q326
  · exact Or.inl q361
  · exact Or.inl q297
  · exact Or.inl q362
  · exact Or.inl q299
  · exact Or.inl q363
  · exact Or.inl q301
  · exact Or.inl q311
  · exact absurd hn (by decide +kernel)
  · exact Or.inl q313
  · exact absurd hn (by decide +kernel)
  · exact Or.inl q303
  · exact Or.inl q604
  · exact Or.inl q605
  · exact Or.inl q360
  · exact Or.inl q303
  · exact Or.inl q2322
  · exact Or.inl q2323
  · exact Or.inl q2324
  · exact Or.inl q598
  · exact Or.inr ⟨q289, rfl⟩
  · exact Or.inl q598
  · exact Or.inl q599
  · exact Or.inl q600
  · exact Or.inl q601
  · exact Or.inr ⟨q291, rfl⟩
  · exact Or.inl q601
  · exact Or.inl q602
  · exact Or.inl q603
  · exact Or.inl q604
  · exact Or.inr ⟨q293, rfl⟩
  · exact Or.inl q140
  · exact Or.inl q537
  · exact Or.inl q276
  · exact Or.inl q585
  · exact Or.inl q587
  · exact Or.inl q586
  · exact Or.inl q588
  · exact Or.inl q169
  · exact Or.inl q2321
  · exact Or.inr ⟨q2332, rfl⟩
  · exact Or.inl q2333
  · exact Or.inl q322
  · exact Or.inl q2327
  · exact Or.inl q2328
  · exact Or.inl q2330
  · exact Or.inl q2326
  · exact absurd hn (by decide +kernel)
  · exact absurd hn (by decide +kernel)
  · exact Or.inl q359
  · exact Or.inl q305
  · exact Or.inl q2325
theorem zVw_AS : zVw "java/lang/ArrayStoreException" ["java/lang/RuntimeException", "java/lang/Exception"] := by
  refine ⟨by decide +kernel, by decide +kernel, by decide +kernel, by decide +kernel, by decide, ?_⟩
  intro w hw
  obtain ⟨h, hn⟩ := List.mem_filter.mp hw
  simp only [Bundle.messageArmAtoms, Bundle.throwableAtoms, Bundle.throwableSAtoms, Bundle.chainSAtoms, Bundle.passSAtoms, Bundle.stringAtoms, List.cons_append, List.nil_append, List.append_nil, List.mem_cons, List.not_mem_nil, or_false] at h
  rcases h with rfl | rfl | rfl | rfl | rfl | rfl | rfl | rfl | rfl | rfl | rfl | rfl | rfl | rfl | rfl | rfl | rfl | rfl | rfl | rfl | rfl | rfl | rfl | rfl | rfl | rfl | rfl | rfl | rfl | rfl | rfl | rfl | rfl | rfl | rfl | rfl | rfl | rfl | rfl | rfl | rfl | rfl | rfl | rfl | rfl | rfl | rfl | rfl | rfl | rfl | rfl | rfl | rfl | rfl | rfl | rfl | rfl | rfl | rfl | rfl | rfl | rfl | rfl | rfl
  · exact Or.inl q134
  · exact Or.inl q307
  · exact Or.inl q316
  · exact Or.inl q325
  · exact Or.inl q328
  · exact Or.inl q330
  · exact Or.inl q308
  · exact Or.inl q309
  · exact Or.inl q206
  · exact Or.inl q207
  · exact Or.inl q310
  · exact Or.inl q315
  · exact Or.inl q326
  · exact Or.inl q361
  · exact Or.inl q297
  · exact Or.inl q362
  · exact Or.inl q299
  · exact Or.inl q363
  · exact Or.inl q301
  · exact Or.inl q311
  · exact absurd hn (by decide +kernel)
  · exact Or.inl q313
  · exact absurd hn (by decide +kernel)
  · exact Or.inl q303
  · exact Or.inl q604
  · exact Or.inl q605
  · exact Or.inl q360
  · exact Or.inl q303
  · exact Or.inl q2648
  · exact Or.inl q2649
  · exact Or.inl q2650
  · exact Or.inl q598
  · exact Or.inr ⟨q289, rfl⟩
  · exact Or.inl q598
  · exact Or.inl q599
  · exact Or.inl q600
  · exact Or.inl q601
  · exact Or.inr ⟨q291, rfl⟩
  · exact Or.inl q601
  · exact Or.inl q602
  · exact Or.inl q603
  · exact Or.inl q604
  · exact Or.inr ⟨q293, rfl⟩
  · exact Or.inl q140
  · exact Or.inl q537
  · exact Or.inl q276
  · exact Or.inl q585
  · exact Or.inl q587
  · exact Or.inl q586
  · exact Or.inl q588
  · exact Or.inl q199
  · exact Or.inl q2647
  · exact Or.inr ⟨q2658, rfl⟩
  · exact Or.inl q2659
  · exact Or.inl q321
  · exact Or.inl q2653
  · exact Or.inl q2654
  · exact Or.inl q2656
  · exact Or.inl q2652
  · exact absurd hn (by decide +kernel)
  · exact absurd hn (by decide +kernel)
  · exact Or.inl q359
  · exact Or.inl q305
  · exact Or.inl q2651
section ZVM
variable {p : Program} {l : Launch} {e : Env} {R : Room} {s : State} {m : MethodId} {args : Array Value} {below : List Frame} {meth : Method} {c : Code} {H : Heap} {locs : List Loc} {kc ks : Nat} {Q : State → Prop}
variable {cc : ByteArray} {pc : Nat} {ls : Array Slot} {rest : List Value} {g : zG} {own : String} {nL : Nat} {hp : zHp} {nx : Nat} {a : Nat} {r : Option Nat} {E : String}
/-- the machine throws an E here: it lies at q, and the heap is as it was but for new cells -/
theorem zv_vm (hk : zK p s m args meth c g cc own nL) (hT : l.stackTraces = false) (hH : zHd g hp H) (hz : H.size = nx) (hS : va_S (zAd g) s.heap H locs) (hl : ls.size = nL) {text : String} {names : List String} {nb : Nat} (hw : zVw E names)
    (htext : (text == notModelled) = false) (hnb : (stringBytes (stringToUtf16 text)).size ≤ nb) (hnb1 : nb ≤ 1000) (hRf : 8 ≤ R.frames) (hRl : (rest.map fun v => v.category).sum + 10240 ≤ R.locals) (hc : kc + 3 ≤ R.cells) (hs : ks + (nb + 10) ≤ R.slots)
    (k : ∀ (H1 : Heap) (q nx1 : Nat), nx ≤ nx1 → zHd g hp H1 → H1.size = nx1 → va_S (zAd g) s.heap H1 locs → zTh s H1 E q → vx_W p l e R s m args below meth c H1 locs (kc + 3) (ks + (nb + 10)) Q (F0 m pc ls rest) q) :
    vx_Note p l e R s m args below meth c H locs kc ks Q (F0 m pc ls rest) E text := by
  obtain ⟨w1, w2, w3, w4, w5, w6⟩ := hw
  have hgood : ∀ w ∈ vx_atM E names, vx_ot w = true := fun w h => by
    rcases w6 w h with h1 | ⟨-, h1⟩
    · simp only [vx_ot, (List.mem_filter.mp h1).2, Bool.or_true]
    · simp only [vx_ot, zwk_on h1, Bool.true_or]
  have hat : ∀ w ∈ vx_atM E names, w.before args s = true := fun w h => by
    rcases w6 w h with h1 | ⟨h1, h2⟩
    · exact hk.1.2.2.2.2 w h1
    · exact va_Nw.use (A := args) (zwk_on h2) (hk.2.2.1.1 w h1 h2)
  have hZ := hk.2.2.1.2.2.2.2.2.2.2
  have hU : vx_Zq Bundle.tN "UNASSIGNED_STACK" Bundle.steD (zAd g) s s.heap := hZ ("java/lang/Throwable", "UNASSIGNED_STACK", "[Ljava/lang/StackTraceElement;") (List.mem_cons_self ..)
  have hN : vx_Zq Bundle.tN "SUPPRESSED_SENTINEL" Bundle.listD (zAd g) s s.heap := hZ ("java/lang/Throwable", "SUPPRESSED_SENTINEL", "Ljava/util/List;") (List.mem_cons_of_mem _ (List.mem_cons_self ..))
  refine vx_vm (A := zAd g) (nb := nb) hk.1.1 hT w1 w2 w3 w4 hat hgood hU hN hS (hl.trans hk.1.2.2.1.symm) htext hnb hnb1 (by omega) hRl (by omega) hc hs hk.2.2.2.2 ?_
  intro H1 q9 ce f1 f2 hS1 hq hv hcl
  exact k H1 q9 H1.size (by rw [← hz]; exact f1) (fun a e he => (hH a e he).kept (f2 a (hH a e he).lt)) rfl hS1 ⟨ce, hq, hv, hcl⟩
/-- it is caught here -/
theorem zv_catch (hk : zK p s m args meth c g cc own nL) {q : Nat} (hq : zTh s H E q) {name : String} (pre : List ExceptionTableEntry) (x : ExceptionTableEntry) (suf : List ExceptionTableEntry) (hsplit : c.exceptionTable.toList = pre ++ x :: suf) (hpass : ∀ z ∈ pre, covers z pc = false ∨ (z.catchType ≠ 0 ∧ ∃ nm : String, Cond.classLink own z.catchType nm ∈ lw_all ∧ (E, nm) ∈ zNC)) (hx : covers x pc = true) (h0 : x.catchType ≠ 0)
    (hlink : Cond.classLink own x.catchType name ∈ lw_all) (hcast : Cond.castable E name ∈ lw_tbl) (kk : W p l e R s m args below meth c H locs kc ks Q (F0 m x.handlerPc ls [va_rf (some q)])) : vx_W p l e R s m args below meth c H locs kc ks Q (F0 m pc ls rest) q := by
  obtain ⟨ce, q1, q2, q3⟩ := hq
  refine vx_catch hk.1.2.2.2.1 pre x suf hsplit (fun z hz => ?_) hx h0 (hk.1.2.2.2.2 _ hlink) (va_Nw.use (A := args) rfl (hk.2.2.1.1 _ hcast rfl)) q1 q2 q3 kk
  rcases hpass z hz with h | ⟨h1, nm, h2, h3⟩
  · exact Or.inl h
  · exact Or.inr ⟨h1, nm, hk.1.2.2.2.2 _ h2, hk.2.2.1.2.2.2.2.2.2.1 (E, nm) h3⟩
end ZVM
/-! a cast that fails -/
theorem zv_cls {vm : Vm} {name : String} {c : ClassId} {k : Class} (h : vm.findClass name = some c) (hk : vm.classes[c]? = some k) : k.name = name ∧ k.hidden = none ∧ k.loader = none := by
  obtain ⟨hlt, hp, _⟩ := Array.findIdx?_eq_some_iff_getElem.mp h
  have h9 : vm.classes[c] = k := by simpa [hlt] using hk
  rw [h9] at hp
  simp only [Bool.and_eq_true, beq_iff_eq, Option.isNone_iff_eq_none] at hp
  exact ⟨hp.1.1.1, hp.1.1.2, hp.2⟩
theorem zv_castNo {p : Program} {l : Launch} {e : Env} {R : Room} {s : State} {m : MethodId} {args : Array Value} {below : List Frame} {meth : Method} {c : Code} {locs : List Loc} {cells slots : Nat} {T : State} (X : Stand p l e R s m args below meth c T locs cells slots) (hexec : p.tables.exec = Jvm.exec)
    {own name : String} {index : Nat} (hown : s.vm.findClass own = some m.cls) (hlink : (Cond.classLink own index name).before args s = true)
    {a : Addr} {cell : Cell} {cT : ClassId} {ks : Class} (hcell : T.heap[a]? = some cell) (hobj : cell.vm.isStatics = false) (hks : s.vm.classes[cell.cls]? = some ks) (hcT : s.vm.findClass name = some cT) (hasg : s.vm.assignable cell.cls cT = false)
    {g : JFrame} (hg : g.method = m) {rest : List Value} (hstack : g.stack = .ref a :: rest) (hdg : decode c.code g.pc = .ok (.checkcast index, 3)) :
    ∃ (vm' : Vm) (ks' kt' : Class), Stand p l e R s m args below meth c (T.setVm vm') locs cells slots ∧ s.vm.Alike vm' ∧ vm'.classes[cell.cls]? = some ks' ∧ vm'.classes[cT]? = some kt' ∧
      ∀ target, Steps p.tables e below (((T.setVm vm').setTop g).pushFrame (.throwNew "java/lang/ClassCastException" (some (Op.checkcast.message vm' ks' kt')) none)) target → Steps p.tables e below (T.setTop g) target := by
  have hpl : e.platform.magicAccessors = ({} : Platform).magicAccessors := by rw [X.admits.platform]
  obtain ⟨c', hc', hcl⟩ := Cond.classLink_spec hown hlink e.platform hpl
  cases hcT.symm.trans hc'
  obtain ⟨dk, _, _, kt, hd, _, _, _, _, hkt, _, hopen⟩ := hcl.here
  have hcl₀ := X.warmed.classLinks hcl
  have hW' : s.WarmedH (T.vm.noted m.cls index (.cls cT)) := X.warmed.noted hd hopen (State.rightAt_cls hcl)
  obtain ⟨ks', hks', -⟩ := hW'.alike.2.2 _ _ hks
  obtain ⟨kt', hkt', -⟩ := hW'.alike.2.2 _ _ hkt
  refine ⟨_, ks', kt', X.noted hW', hW'.alike, hks', hkt', fun target hrest => ?_⟩
  subst hg
  jvm_step X.here [hexec, hdg, Op.checkcast.wp_cold (e := e) (s := T) (f := g) X.here.top hstack (resolveClass_links e.toSetting hcl₀) hcl₀.ready,
    Op.checkcast.wp_ready (e := e) (s := T.setVm (T.vm.noted g.method.cls index (.cls cT))) (f := g) X.here.top hcl₀.ready hstack]
  refine ⟨cell, hcell, VmData.noStatics_of hobj, ks', hks', kt', hkt', ?_⟩
  have h1 : (T.vm.noted g.method.cls index (Resolved.cls cT)).assignable cell.cls cT = false := by rw [hW'.alike.assignable]; exact hasg
  simp only [h1]
  exact hrest
theorem vc_dotted (n : String) : (dotted n).toList.length = n.toList.length := by
  simp [dotted, turned]
theorem vc_home {vm : Vm} {k : Class} (hl : k.loader = none) (hm : ∀ x, vm.moduleOf k = some x → x.name = "java.base") : (vm.home k).toList.length ≤ 40 := by
  unfold Vm.home
  rw [hl]
  cases h : vm.moduleOf k with
  | none => show ("unnamed module" ++ " of loader " ++ "'bootstrap'").toList.length ≤ 40; decide +kernel
  | some x =>
    have e := hm x h
    show ("module " ++ x.name ++ " of loader " ++ "'bootstrap'").toList.length ≤ 40
    rw [e]
    decide +kernel
theorem vc_homes {vm : Vm} {a b : Class} (ha : (vm.home a).toList.length ≤ 40) (hb : (vm.home b).toList.length ≤ 40) (h1 : a.shown.toList.length ≤ 20) (h2 : b.shown.toList.length ≤ 20) : (vm.homes a b).toList.length ≤ 150 := by
  unfold Vm.homes
  split
  · show (toString a.shown ++ toString " and " ++ toString b.shown ++ toString " are in " ++ toString (vm.home a)).toList.length ≤ 150
    simp only [toString, String.toList_append, List.length_append]
    have e1 : " and ".toList.length = 5 := by decide +kernel
    have e2 : " are in ".toList.length = 8 := by decide +kernel
    omega
  · show (toString a.shown ++ toString " is in " ++ toString (vm.home a) ++ toString "; " ++ toString b.shown ++ toString " is in " ++ toString (vm.home b)).toList.length ≤ 150
    simp only [toString, String.toList_append, List.length_append]
    have e1 : " is in ".toList.length = 7 := by decide +kernel
    have e2 : "; ".toList.length = 2 := by decide +kernel
    omega
theorem vc_msgL {vm : Vm} {a b : Class} (h : (vm.homes a b).toList.length ≤ 150) (h1 : a.shown.toList.length ≤ 20) (h2 : b.shown.toList.length ≤ 20) : (Op.checkcast.message vm a b).toList.length ≤ 250 ∧ ∃ r, (Op.checkcast.message vm a b).toList = 'c' :: r := by
  unfold Op.checkcast.message
  constructor
  · show (toString "class " ++ toString a.shown ++ toString " cannot be cast to class " ++ toString b.shown ++ toString " (" ++ toString (vm.homes a b) ++ toString ")").toList.length ≤ 250
    simp only [toString, String.toList_append, List.length_append]
    have e1 : "class ".toList.length = 6 := by decide +kernel
    have e2 : " cannot be cast to class ".toList.length = 25 := by decide +kernel
    have e3 : " (".toList.length = 2 := by decide +kernel
    have e4 : ")".toList.length = 1 := by decide +kernel
    omega
  · refine ⟨"lass ".toList ++ a.shown.toList ++ " cannot be cast to class ".toList ++ b.shown.toList ++ " (".toList ++ (vm.homes a b).toList ++ ")".toList, ?_⟩
    show (toString "class " ++ toString a.shown ++ toString " cannot be cast to class " ++ toString b.shown ++ toString " (" ++ toString (vm.homes a b) ++ toString ")").toList = _
    simp only [toString, String.toList_append]
    rfl
theorem vc_text {t : String} (h : t.toList.length ≤ 250) {ch : Char} {r : List Char} (hr : t.toList = ch :: r) (hc : ch ≠ '\u0000') : (t == notModelled) = false ∧ (stringBytes (stringToUtf16 t)).size ≤ 1000 := by
  constructor
  · rw [beq_eq_false_iff_ne]
    intro h9
    have h2 := congrArg String.toList h9
    have h4 : notModelled.toList = '\u0000' :: " a message that is not modelled".toList := by decide +kernel
    rw [hr, h4] at h2
    exact hc (List.cons.inj h2).1
  · have b1 := stringBytes_size_le (stringToUtf16 t)
    have b2 := utf16_size_le t
    omega
/-- no module of the first loader that bears the unnamed package is called otherwise -/
def zMod (s : State) : Prop := ∀ x ∈ s.vm.modules, x.loader = none → x.packages.contains "" = true → x.name = "java.base"
theorem zMod.moved {u U : State} (hv : u.vm.Alike U.vm) (h : zMod u) : zMod U := by
  have e : U.vm.modules = u.vm.modules := by rw [hv.1]
  unfold zMod
  rw [e]
  exact h
/-- whose module is java.base or none -/
def vcB (vm : Vm) (k : Class) : Prop := ∀ x, vm.moduleOf k = some x → x.name = "java.base"
theorem vcB.ob {vm : Vm} (hM : ∀ x ∈ vm.modules, x.loader = none → x.packages.contains "" = true → x.name = "java.base") {k : Class} (hl : k.loader = none) (hn : packageOf k.name = "") : vcB vm k := by
  intro x hx
  unfold Vm.moduleOf at hx
  split at hx
  · have := List.find?_some hx
    simpa using this
  · have h1 := List.find?_some hx
    simp only [Bool.and_eq_true, beq_iff_eq, hl, hn] at h1
    exact hM x (List.mem_of_find?_eq_some hx) h1.1 h1.2
theorem vcB.ar {vm : Vm} {k : Class} (hp : k.ofPrimitives = true) : vcB vm k := by
  intro x hx
  unfold Vm.moduleOf at hx
  rw [if_pos hp] at hx
  have := List.find?_some hx
  simpa using this
section ZVC
variable {p : Program} {l : Launch} {e : Env} {s : State} {m : MethodId} {args : Array Value} {below : List Frame} {meth : Method} {c : Code} {H : Heap} {locs : List Loc} {kc ks : Nat} {Q : State → Prop}
variable {cc : ByteArray} {pc : Nat} {ls : Array Slot} {rest : List Value} {g : zG} {own : String} {nL : Nat} {hp : zHp} {nx : Nat} {a : Nat} {r : Option Nat} {d mc ms : Nat}
theorem zv_newarr {atype : ArrayType} (hk : zK p s m args meth c g cc own nL) (hT : l.stackTraces = false) (hH : zHd g hp H) (hz : H.size = nx) (hS : va_S (zAd g) s.heap H locs) (hl : ls.size = nL) {n : Int32} (h0 : n < 0) (hd : 160 ≤ d) (hr : (rest.map fun v => v.category).sum ≤ 64) (hc : kc + 3 ≤ mc) (hs : ks + 222 ≤ ms) (hdg : decode cc pc = .ok (.newarray atype, 2))
    (k : ∀ (H1 : Heap) (q nx1 : Nat), nx ≤ nx1 → zHd g hp H1 → H1.size = nx1 → va_S (zAd g) s.heap H1 locs → zTh s H1 "java/lang/NegativeArraySizeException" q → vx_W p l e (zrm (d + 1) mc ms) s m args below meth c H1 locs (kc + 3) (ks + 222) Q (F0 m pc ls rest) q) :
    W p l e (zrm (d + 1) mc ms) s m args below meth c H locs kc ks Q (F0 m pc ls (.int n :: rest)) := by
  refine vx_newarrayZ hk.1.1 hk.1.2.1 h0 hdg (fun tx etx => ?_)
  subst etx
  exact zv_vm (nb := 212) hk hT hH hz hS hl zVw_NS (negative_text_modelled h0) (Nat.le_trans (negative_text_bytes n) (by decide)) (by decide) (by show 8 ≤ d + 1; omega) (by show _ ≤ 64 * (d + 1); omega) hc hs k
/-- an object of class C isn't cast to nm -/
theorem zv_castO (hk : zK p s m args meth c g cc own nL) (hT : l.stackTraces = false) (hM : zMod s) (hH : zHd g hp H) (hz : H.size = nx) (hS : va_S (zAd g) s.heap H locs) (hl : ls.size = nL) {ci : Nat} {fs : List Value} {C nm : String} {T : u_T} {N idx : Nat} (er : r = some a) (he : hp a = some (.inr (ci, fs))) (hci : zcl[ci]? = some (C, T, N)) (hcl : Cond.classLink own idx nm ∈ lw_all) (hno : (C, nm) ∈ zNC)
    (hC : packageOf C = "" ∧ C.toList.length ≤ 20) (hm : packageOf nm = "" ∧ nm.toList.length ≤ 20) (hd : 160 ≤ d) (hr : ((va_rf r :: rest).map fun v => v.category).sum ≤ 64) (hc : kc + 3 ≤ mc) (hs : ks + 1010 ≤ ms) (hdg : decode cc pc = .ok (.checkcast idx, 3))
    (k : ∀ (H1 : Heap) (q nx1 : Nat), nx ≤ nx1 → zHd g hp H1 → H1.size = nx1 → va_S (zAd g) s.heap H1 locs → zTh s H1 "java/lang/ClassCastException" q → vx_W p l e (zrm (d + 1) mc ms) s m args below meth c H1 locs (kc + 3) (ks + 1010) Q (F0 m pc ls (va_rf r :: rest)) q) :
    W p l e (zrm (d + 1) mc ms) s m args below meth c H locs kc ks Q (F0 m pc ls (va_rf r :: rest)) := by
  subst er
  obtain ⟨cell, h1, h2, h3⟩ := z_recv hk hH he hci
  obtain ⟨c0, t0, f1, f2, f3⟩ := hk.2.2.1.2.2.2.2.2.2.1 (C, nm) hno
  cases h3.symm.trans f1
  obtain ⟨ks0, hks0, -⟩ := Vm.findClass_spec h3
  obtain ⟨kt0, hkt0, -⟩ := Vm.findClass_spec f2
  intro S hSt X
  obtain ⟨vm', ks', kt', X', hA, g1, g2, st⟩ := zv_castNo X hk.1.1 hk.1.2.2.2.1 (hk.1.2.2.2.2 _ hcl) (by rw [hSt]; exact h1) h2 hks0 f2 f3 (g := F0 m pc ls (.ref a :: rest)) rfl (rest := rest) rfl (by rw [hk.1.2.1]; exact hdg)
  have e1 : vm'.findClass C = some cell.cls := by rw [hA.findClass]; exact h3
  have e2 : vm'.findClass nm = some t0 := by rw [hA.findClass]; exact f2
  obtain ⟨a1, a2, a3⟩ := zv_cls e1 g1
  obtain ⟨b1, b2, b3⟩ := zv_cls e2 g2
  have hM' : ∀ x ∈ vm'.modules, x.loader = none → x.packages.contains "" = true → x.name = "java.base" := by
    have e : vm'.modules = s.vm.modules := by rw [hA.1]
    rw [e]; exact hM
  have k1 : ks'.shown.toList.length ≤ 20 := by unfold Class.shown; rw [a2]; show (dotted ks'.name).toList.length ≤ 20; rw [vc_dotted, a1]; exact hC.2
  have k2 : kt'.shown.toList.length ≤ 20 := by unfold Class.shown; rw [b2]; show (dotted kt'.name).toList.length ≤ 20; rw [vc_dotted, b1]; exact hm.2
  obtain ⟨m1, r1, m2⟩ := vc_msgL (vc_homes (vc_home a3 (vcB.ob hM' a3 (by rw [a1]; exact hC.1))) (vc_home b3 (vcB.ob hM' b3 (by rw [b1]; exact hm.1))) k1 k2) k1 k2
  obtain ⟨t1, t2⟩ := vc_text m1 m2 (by decide)
  obtain ⟨t, s1, s2⟩ := zv_vm (nb := 1000) hk hT hH hz hS hl zVw_CC t1 t2 (by decide) (by show 8 ≤ d + 1; omega) (by show _ ≤ 64 * (d + 1); omega) hc hs k (S.setVm vm') hSt X'
  exact ⟨t, st t s1, s2⟩
theorem z_arK (hk : zK p s m args meth c g cc own nL) {j : Nat} (hj : j = 0 ∨ j = 1 ∨ j = 2 ∨ j = 5) : ∃ (kA : Class) (comp : ClassId) (ty : FieldType), s.vm.classes[g.2.1 j]? = some kA ∧ kA.kind = .array comp ty := by
  rcases hj with rfl | rfl | rfl | rfl
  · obtain ⟨-, k, h1, comp, h2⟩ := (hk.2.1.2 0 _ rfl).1 0 (fun _ => .null)
    exact ⟨k, comp, _, h1, h2⟩
  · obtain ⟨-, k, h1, comp, h2⟩ := (hk.2.1.2 1 _ rfl).1 0 (fun _ => .null)
    exact ⟨k, comp, _, h1, h2⟩
  · obtain ⟨-, k, h1, comp, h2⟩ := (hk.2.1.2 2 _ rfl).1 0 (fun _ => .null)
    exact ⟨k, comp, _, h1, h2⟩
  · obtain ⟨-, k, h1, comp, h2⟩ := (hk.2.1.2 5 _ rfl).1 0 (fun _ => .null)
    exact ⟨k, comp, _, h1, h2⟩
theorem zNm_f {j : Nat} (hj : j = 0 ∨ j = 1 ∨ j = 2 ∨ j = 5) : (zNm j).toList.length ≤ 20 ∧ ((withoutBrackets (zNm j)).length == 1) = true := by
  rcases hj with rfl | rfl | rfl | rfl <;> exact ⟨by decide +kernel, by decide +kernel⟩
/-- an array of figures isn't cast to another kind of array -/
theorem zv_castA (hk : zK p s m args meth c g cc own nL) (hT : l.stackTraces = false) (hH : zHd g hp H) (hz : H.size = nx) (hS : va_S (zAd g) s.heap H locs) (hl : ls.size = nL) {j t0 : Nat} (hj : j = 0 ∨ j = 1 ∨ j = 2 ∨ j = 5) (ht : t0 = 0 ∨ t0 = 1 ∨ t0 = 2 ∨ t0 = 5) (hjt : j ≠ t0) {idx : Nat} {x : vp_A} (er : r = some a) (he : hp a = some (.inl (g.2.1 j, x))) (hcl : Cond.classLink own idx (zNm t0) ∈ lw_all)
    (hd : 160 ≤ d) (hr : ((va_rf r :: rest).map fun v => v.category).sum ≤ 64) (hc : kc + 3 ≤ mc) (hs : ks + 1010 ≤ ms) (hdg : decode cc pc = .ok (.checkcast idx, 3))
    (k : ∀ (H1 : Heap) (q nx1 : Nat), nx ≤ nx1 → zHd g hp H1 → H1.size = nx1 → va_S (zAd g) s.heap H1 locs → zTh s H1 "java/lang/ClassCastException" q → vx_W p l e (zrm (d + 1) mc ms) s m args below meth c H1 locs (kc + 3) (ks + 1010) Q (F0 m pc ls (va_rf r :: rest)) q) :
    W p l e (zrm (d + 1) mc ms) s m args below meth c H locs kc ks Q (F0 m pc ls (va_rf r :: rest)) := by
  subst er
  obtain ⟨cell, h1, h2, h3⟩ := z_arH hH he
  obtain ⟨c0, t1, f1, f2, f3⟩ := hk.2.2.1.2.2.2.2.2.2.1 _ (z_NCm hj ht hjt)
  have f0 : s.vm.findClass (zNm j) = some cell.cls := by rw [h3]; exact z_arN hk hj
  cases f0.symm.trans f1
  cases (z_arN hk ht).symm.trans f2
  obtain ⟨ks0, cm1, ty1, hks0, kd1⟩ := z_arK hk hj
  obtain ⟨kt0, cm2, ty2, hkt0, kd2⟩ := z_arK hk ht
  rw [← h3] at hks0
  intro S hSt X
  obtain ⟨vm', ks', kt', X', hA, g1, g2, st⟩ := zv_castNo X hk.1.1 hk.1.2.2.2.1 (hk.1.2.2.2.2 _ hcl) (by rw [hSt]; exact h1) h2 hks0 f2 f3 (g := F0 m pc ls (.ref a :: rest)) rfl (rest := rest) rfl (by rw [hk.1.2.1]; exact hdg)
  have e1 : vm'.findClass (zNm j) = some cell.cls := by rw [hA.findClass]; exact f0
  have e2 : vm'.findClass (zNm t0) = some (g.2.1 t0) := by rw [hA.findClass]; exact f2
  obtain ⟨a1, a2, a3⟩ := zv_cls e1 g1
  obtain ⟨b1, b2, b3⟩ := zv_cls e2 g2
  obtain ⟨k5, k6, k7⟩ := hA.2.2 _ _ hks0
  obtain ⟨k8, k9, k10⟩ := hA.2.2 _ _ hkt0
  cases g1.symm.trans k6
  cases g2.symm.trans k9
  have d1 : ks'.kind = .array cm1 ty1 := by rw [k7]; exact kd1
  have d2 : kt'.kind = .array cm2 ty2 := by rw [k10]; exact kd2
  have p1 : ks'.ofPrimitives = true := by unfold Class.ofPrimitives; rw [d1]; show ((withoutBrackets ks'.name).length == 1) = true; rw [a1]; exact (zNm_f hj).2
  have p2 : kt'.ofPrimitives = true := by unfold Class.ofPrimitives; rw [d2]; show ((withoutBrackets kt'.name).length == 1) = true; rw [b1]; exact (zNm_f ht).2
  have k1 : ks'.shown.toList.length ≤ 20 := by unfold Class.shown; rw [a2]; show (dotted ks'.name).toList.length ≤ 20; rw [vc_dotted, a1]; exact (zNm_f hj).1
  have k2 : kt'.shown.toList.length ≤ 20 := by unfold Class.shown; rw [b2]; show (dotted kt'.name).toList.length ≤ 20; rw [vc_dotted, b1]; exact (zNm_f ht).1
  obtain ⟨m1, r1, m2⟩ := vc_msgL (vc_homes (vc_home a3 (vcB.ar p1)) (vc_home b3 (vcB.ar p2)) k1 k2) k1 k2
  obtain ⟨t2, t3⟩ := vc_text m1 m2 (by decide)
  obtain ⟨t, s1, s2⟩ := zv_vm (nb := 1000) hk hT hH hz hS hl zVw_CC t2 t3 (by decide) (by show 8 ≤ d + 1; omega) (by show _ ≤ 64 * (d + 1); omega) hc hs k (S.setVm vm') hSt X'
  exact ⟨t, st t s1, s2⟩
end ZVC
/-! contracts that may look at the modules -/
def zMtM (l : Launch) (g : zG) (y : MethodName) (cc : ByteArray) (L : Nat) (ret : Option FieldType) (hh : List (Nat × Nat × Nat × Nat)) (d mc ms : Nat) (av : List Value) (hp : zHp) (nx : Nat) (Q : Array Value → State → Outcome → State → Prop) : Prop :=
  Met l y (wsW_ y cc L ret hh) (zrm d mc ms) (fun a s => va_Pc av (zSt g hp nx) a s ∧ zMod s) Q mc ms (zAd g)
theorem z_startM {l : Launch} {cc : ByteArray} {g : zG} {hp : zHp} {nx : Nat} {y : MethodName} {L : Nat} {ret : Option FieldType} {hh : List (Nat × Nat × Nat × Nat)} {d mc ms : Nat} {av : List Value} {Qc : Array Value → State → Outcome → State → Prop} (hy : plainName y.cls = true) (hL : (lg_sl av).length ≤ L)
    (body : ∀ (p : Program) (e : Env) (s : State) (m : MethodId) (below : List Frame) (meth : Method) (c : Code), zK p s m av.toArray meth c g cc y.cls L → meth.sig.returnType = ret → meth.name = y.name → c.exceptionTable.toList = tableOf hh → zHd g hp s.heap → s.heap.size = nx → zMod s → ∀ ls : Array Slot, lv_has ls L (lv_args 0 av) →
      W p l e (zrm d mc ms) s m av.toArray below meth c s.heap [] 0 0 (MQ below Qc av.toArray s mc ms (zAd g)) (F0 m 0 ls [])) : zMtM l g y cc L ret hh d mc ms av hp nx Qc := by
  unfold zMtM Met
  refine MetFree.of_bodyS (code := cc) (maxLocals := L) (ret := ret) hy ?_ ?_
  · intro args s m h hn
    obtain ⟨m', meth, c, h0, h1, h2, h3, h4, h5, h6, h7, -⟩ := Cond.codeWith_spec (atoms_spec (ws := wsW_ y cc L ret hh) h _ List.mem_cons_self)
    cases hn.symm.trans h0
    exact ⟨meth, c, h1, h2, h3, h4, h6, h7⟩
  · intro p e s m args below meth c s₁ B hml hv _
    obtain ⟨⟨rfl, hH, hz, hK, hR, hb⟩, hM⟩ := hv
    have hh0 : s₁.heap = s.heap := by rw [B.state]; rfl
    have hts := atoms_spec (ws := wsW_ y cc L ret hh) B.pre
    have htb := vx_table (x := y) B (hts _ List.mem_cons_self)
    have hts : ∀ w ∈ lw_all, w.before _ s = true := fun w h => hts w (List.mem_cons_of_mem _ h)
    have hown : s.vm.findClass y.cls = some m.cls := findClass_of_methodNamed B.named
    have hin : meth.name = y.name := (name_of_methodNamed B.named B.method).1
    have hl := lv_entry av (n := L) hL
    have hw := body p e s m below meth c ⟨⟨B.exec, B.bytes, hml, hown, hts⟩, hK, hR, by rw [hz]; exact hb, B.notSynchronized⟩ B.returns hin htb hH hz hM _ hl
    rw [← lg_entry_eq] at hw
    obtain ⟨t, a1, o, b1, b2, b3⟩ := hw s₁ hh0 (Stand.of_body B)
    exact ⟨t, o, a1, b1, b2, ⟨b3.1, b3.2⟩⟩
section ZMR
variable {p : Program} {l : Launch} {e : Env} {R : Room} {s : State} {m : MethodId} {args : Array Value} {below : List Frame} {meth : Method} {c : Code} {H : Heap} {locs : List Loc} {kc ks : Nat} {Q : State → Prop}
variable {cc : ByteArray} {pc : Nat} {ls : Array Slot} {rest : List Value} {g : zG} {own : String} {nL : Nat} {hp hp' : zHp} {nx : Nat} {a : Nat} {r : Option Nat}
variable {y : MethodName} {c2 : ByteArray} {L d mc ms n idx : Nat} {ret : Option FieldType} {hh : List (Nat × Nat × Nat × Nat)} {Qc : Array Value → State → Outcome → State → Prop} {C : String} {b0 : Nat} {As st0 : List Value}
theorem zw_runVM (hk : zK p s m args meth c g cc own nL) (hMod : zMod s) (hH : zHd g hp H) (hz : H.size = nx) (hS : va_S (zAd g) s.heap H locs) (hl : ls.size = nL) (er : r = some b0) (hM : zMtM l g y c2 L ret hh d mc ms (.ref b0 :: As) hp nx Qc) (cw : vx_CVW R s args own C idx y c2 L ret hh (wsW_ y c2 L ret hh) (zrm d mc ms) mc ms n) {ci : Nat} {fs : List Value} {T : u_T} {N : Nat} (hr : hp b0 = some (.inr (ci, fs))) (hc : zcl[ci]? = some (C, T, N))
    (hn : As.length = n) (hst : st0 = As.reverse ++ va_rf r :: rest) (hW : (rest.map fun v => v.category).sum ≤ 8) (hdg : decode cc pc = .ok (.invokevirtual idx, 3)) (hf : kc + mc ≤ R.cells ∧ ks + ms ≤ R.slots) : va_Run p l e R s m args below meth c H locs kc ks mc ms (F0 m pc ls st0) rest (Qc (Value.ref b0 :: As).toArray) (zAd g) := by
  subst er
  refine vx_runVW hk.1 hM cw ⟨?_, va_recv hk.2.1 (hH.P hr) hc (q0 := 0) rfl, fun U hU hW' => ⟨⟨rfl, hk.st hH hz hS hU hW'⟩, hMod.moved hW'.alike⟩⟩ rfl hn hl hst (lv_room hW) hdg hf
  exact fun a U f mk h => ⟨zSt.blind a U f mk h.1, h.2⟩
end ZMR
section ZVR
variable {p : Program} {l : Launch} {e : Env} {s : State} {m : MethodId} {args : Array Value} {below : List Frame} {meth : Method} {c : Code} {H : Heap} {locs : List Loc} {kc ks : Nat} {Q : State → Prop}
variable {cc : ByteArray} {pc : Nat} {ls : Array Slot} {rest : List Value} {g : zG} {own : String} {nL : Nat} {hp : zHp} {nx : Nat} {a : Nat} {r : Option Nat} {d mc ms : Nat}
theorem zv_iald (hk : zK p s m args meth c g cc own nL) (hT : l.stackTraces = false) (hd : 160 ≤ d) (hH : zHd g hp H) (hz : H.size = nx) (hS : va_S (zAd g) s.heap H locs) (hl : ls.size = nL) {n : Nat} {f : Nat → Int32} {i : Int32} (er : r = some a) (he : hp a = some (.inl (g.2.1 0, n, .inl f))) (hi : ¬ vp_in i n) (hn : n < 2147483648) (hc : kc + 3 ≤ mc) (hs : ks + 222 ≤ ms) (hr : (rest.map fun v => v.category).sum ≤ 64) (hdg : decode cc pc = .ok (.iaload, 1))
    (k : ∀ (H1 : Heap) (q nx1 : Nat), nx ≤ nx1 → zHd g hp H1 → H1.size = nx1 → va_S (zAd g) s.heap H1 locs → zTh s H1 "java/lang/ArrayIndexOutOfBoundsException" q → vx_W p l e (zrm (d + 1) mc ms) s m args below meth c H1 locs (kc + 3) (ks + 222) Q (F0 m pc ls rest) q) :
    W p l e (zrm (d + 1) mc ms) s m args below meth c H locs kc ks Q (F0 m pc ls (.int i :: va_rf r :: rest)) := by
  subst er
  refine vx_ialdZ hk.1.1 hk.1.2.1 hk.2.1 (hH.P he) 0 0 rfl rfl hi hdg (fun tx etx => ?_)
  subst etx
  exact zv_vm (nb := 212) hk hT hH hz hS hl zVw_AI (index_text_modelled i n) (index_text_bytes i (by omega)) (by decide) (by show 8 ≤ d + 1; omega) (by show _ ≤ 64 * (d + 1); omega) hc hs k
theorem zv_iast (hk : zK p s m args meth c g cc own nL) (hT : l.stackTraces = false) (hd : 160 ≤ d) (hH : zHd g hp H) (hz : H.size = nx) (hS : va_S (zAd g) s.heap H locs) (hl : ls.size = nL) {n : Nat} {f : Nat → Int32} {i : Int32} {x : Int32} (er : r = some a) (he : hp a = some (.inl (g.2.1 0, n, .inl f))) (hi : ¬ vp_in i n) (hn : n < 2147483648) (hc : kc + 3 ≤ mc) (hs : ks + 222 ≤ ms) (hr : (rest.map fun v => v.category).sum ≤ 64) (hdg : decode cc pc = .ok (.iastore, 1))
    (k : ∀ (H1 : Heap) (q nx1 : Nat), nx ≤ nx1 → zHd g hp H1 → H1.size = nx1 → va_S (zAd g) s.heap H1 locs → zTh s H1 "java/lang/ArrayIndexOutOfBoundsException" q → vx_W p l e (zrm (d + 1) mc ms) s m args below meth c H1 locs (kc + 3) (ks + 222) Q (F0 m pc ls rest) q) :
    W p l e (zrm (d + 1) mc ms) s m args below meth c H locs kc ks Q (F0 m pc ls (.int x :: .int i :: va_rf r :: rest)) := by
  subst er
  refine vx_iastZ hk.1.1 hk.1.2.1 hk.2.1 (hH.P he) 0 0 rfl rfl hi hdg (fun tx etx => ?_)
  subst etx
  exact zv_vm (nb := 212) hk hT hH hz hS hl zVw_AI (index_text_modelled i n) (index_text_bytes i (by omega)) (by decide) (by show 8 ≤ d + 1; omega) (by show _ ≤ 64 * (d + 1); omega) hc hs k
theorem zv_bald (hk : zK p s m args meth c g cc own nL) (hT : l.stackTraces = false) (hd : 160 ≤ d) (hH : zHd g hp H) (hz : H.size = nx) (hS : va_S (zAd g) s.heap H locs) (hl : ls.size = nL) {n : Nat} {f : Nat → Int32} {i : Int32} (er : r = some a) (he : hp a = some (.inl (g.2.1 2, n, .inl f))) (hi : ¬ vp_in i n) (hn : n < 2147483648) (hc : kc + 3 ≤ mc) (hs : ks + 222 ≤ ms) (hr : (rest.map fun v => v.category).sum ≤ 64) (hdg : decode cc pc = .ok (.baload, 1))
    (k : ∀ (H1 : Heap) (q nx1 : Nat), nx ≤ nx1 → zHd g hp H1 → H1.size = nx1 → va_S (zAd g) s.heap H1 locs → zTh s H1 "java/lang/ArrayIndexOutOfBoundsException" q → vx_W p l e (zrm (d + 1) mc ms) s m args below meth c H1 locs (kc + 3) (ks + 222) Q (F0 m pc ls rest) q) :
    W p l e (zrm (d + 1) mc ms) s m args below meth c H locs kc ks Q (F0 m pc ls (.int i :: va_rf r :: rest)) := by
  subst er
  refine vx_baldZ hk.1.1 hk.1.2.1 hk.2.1 (hH.P he) 0 2 rfl rfl hi hdg (fun tx etx => ?_)
  subst etx
  exact zv_vm (nb := 212) hk hT hH hz hS hl zVw_AI (index_text_modelled i n) (index_text_bytes i (by omega)) (by decide) (by show 8 ≤ d + 1; omega) (by show _ ≤ 64 * (d + 1); omega) hc hs k
theorem zv_bast (hk : zK p s m args meth c g cc own nL) (hT : l.stackTraces = false) (hd : 160 ≤ d) (hH : zHd g hp H) (hz : H.size = nx) (hS : va_S (zAd g) s.heap H locs) (hl : ls.size = nL) {n : Nat} {f : Nat → Int32} {i : Int32} {x : Int32} (er : r = some a) (he : hp a = some (.inl (g.2.1 2, n, .inl f))) (hi : ¬ vp_in i n) (hn : n < 2147483648) (hc : kc + 3 ≤ mc) (hs : ks + 222 ≤ ms) (hr : (rest.map fun v => v.category).sum ≤ 64) (hdg : decode cc pc = .ok (.bastore, 1))
    (k : ∀ (H1 : Heap) (q nx1 : Nat), nx ≤ nx1 → zHd g hp H1 → H1.size = nx1 → va_S (zAd g) s.heap H1 locs → zTh s H1 "java/lang/ArrayIndexOutOfBoundsException" q → vx_W p l e (zrm (d + 1) mc ms) s m args below meth c H1 locs (kc + 3) (ks + 222) Q (F0 m pc ls rest) q) :
    W p l e (zrm (d + 1) mc ms) s m args below meth c H locs kc ks Q (F0 m pc ls (.int x :: .int i :: va_rf r :: rest)) := by
  subst er
  refine vx_bastZ hk.1.1 hk.1.2.1 hk.2.1 (hH.P he) 0 2 rfl rfl hi hdg (fun tx etx => ?_)
  subst etx
  exact zv_vm (nb := 212) hk hT hH hz hS hl zVw_AI (index_text_modelled i n) (index_text_bytes i (by omega)) (by decide) (by show 8 ≤ d + 1; omega) (by show _ ≤ 64 * (d + 1); omega) hc hs k
theorem zv_fald (hk : zK p s m args meth c g cc own nL) (hT : l.stackTraces = false) (hd : 160 ≤ d) (hH : zHd g hp H) (hz : H.size = nx) (hS : va_S (zAd g) s.heap H locs) (hl : ls.size = nL) {n : Nat} {f : Nat → UInt32} {i : Int32} (er : r = some a) (he : hp a = some (.inl (g.2.1 5, n, .inr (.inr (.inl f))))) (hi : ¬ vp_in i n) (hn : n < 2147483648) (hc : kc + 3 ≤ mc) (hs : ks + 222 ≤ ms) (hr : (rest.map fun v => v.category).sum ≤ 64) (hdg : decode cc pc = .ok (.faload, 1))
    (k : ∀ (H1 : Heap) (q nx1 : Nat), nx ≤ nx1 → zHd g hp H1 → H1.size = nx1 → va_S (zAd g) s.heap H1 locs → zTh s H1 "java/lang/ArrayIndexOutOfBoundsException" q → vx_W p l e (zrm (d + 1) mc ms) s m args below meth c H1 locs (kc + 3) (ks + 222) Q (F0 m pc ls rest) q) :
    W p l e (zrm (d + 1) mc ms) s m args below meth c H locs kc ks Q (F0 m pc ls (.int i :: va_rf r :: rest)) := by
  subst er
  refine vx_faldZ hk.1.1 hk.1.2.1 hk.2.1 (hH.P he) 0 5 rfl rfl hi hdg (fun tx etx => ?_)
  subst etx
  exact zv_vm (nb := 212) hk hT hH hz hS hl zVw_AI (index_text_modelled i n) (index_text_bytes i (by omega)) (by decide) (by show 8 ≤ d + 1; omega) (by show _ ≤ 64 * (d + 1); omega) hc hs k
theorem zv_fast (hk : zK p s m args meth c g cc own nL) (hT : l.stackTraces = false) (hd : 160 ≤ d) (hH : zHd g hp H) (hz : H.size = nx) (hS : va_S (zAd g) s.heap H locs) (hl : ls.size = nL) {n : Nat} {f : Nat → UInt32} {i : Int32} {x : UInt32} (er : r = some a) (he : hp a = some (.inl (g.2.1 5, n, .inr (.inr (.inl f))))) (hi : ¬ vp_in i n) (hn : n < 2147483648) (hc : kc + 3 ≤ mc) (hs : ks + 222 ≤ ms) (hr : (rest.map fun v => v.category).sum ≤ 64) (hdg : decode cc pc = .ok (.fastore, 1))
    (k : ∀ (H1 : Heap) (q nx1 : Nat), nx ≤ nx1 → zHd g hp H1 → H1.size = nx1 → va_S (zAd g) s.heap H1 locs → zTh s H1 "java/lang/ArrayIndexOutOfBoundsException" q → vx_W p l e (zrm (d + 1) mc ms) s m args below meth c H1 locs (kc + 3) (ks + 222) Q (F0 m pc ls rest) q) :
    W p l e (zrm (d + 1) mc ms) s m args below meth c H locs kc ks Q (F0 m pc ls (.float x :: .int i :: va_rf r :: rest)) := by
  subst er
  refine vx_fastZ hk.1.1 hk.1.2.1 hk.2.1 (hH.P he) 0 5 rfl rfl hi hdg (fun tx etx => ?_)
  subst etx
  exact zv_vm (nb := 212) hk hT hH hz hS hl zVw_AI (index_text_modelled i n) (index_text_bytes i (by omega)) (by decide) (by show 8 ≤ d + 1; omega) (by show _ ≤ 64 * (d + 1); omega) hc hs k
theorem zv_dald (hk : zK p s m args meth c g cc own nL) (hT : l.stackTraces = false) (hd : 160 ≤ d) (hH : zHd g hp H) (hz : H.size = nx) (hS : va_S (zAd g) s.heap H locs) (hl : ls.size = nL) {n : Nat} {f : Nat → UInt64} {i : Int32} (er : r = some a) (he : hp a = some (.inl (g.2.1 1, n, .inr (.inr (.inr (.inl f)))))) (hi : ¬ vp_in i n) (hn : n < 2147483648) (hc : kc + 3 ≤ mc) (hs : ks + 222 ≤ ms) (hr : (rest.map fun v => v.category).sum ≤ 64) (hdg : decode cc pc = .ok (.daload, 1))
    (k : ∀ (H1 : Heap) (q nx1 : Nat), nx ≤ nx1 → zHd g hp H1 → H1.size = nx1 → va_S (zAd g) s.heap H1 locs → zTh s H1 "java/lang/ArrayIndexOutOfBoundsException" q → vx_W p l e (zrm (d + 1) mc ms) s m args below meth c H1 locs (kc + 3) (ks + 222) Q (F0 m pc ls rest) q) :
    W p l e (zrm (d + 1) mc ms) s m args below meth c H locs kc ks Q (F0 m pc ls (.int i :: va_rf r :: rest)) := by
  subst er
  refine vx_daldZ hk.1.1 hk.1.2.1 hk.2.1 (hH.P he) 0 1 rfl rfl hi hdg (fun tx etx => ?_)
  subst etx
  exact zv_vm (nb := 212) hk hT hH hz hS hl zVw_AI (index_text_modelled i n) (index_text_bytes i (by omega)) (by decide) (by show 8 ≤ d + 1; omega) (by show _ ≤ 64 * (d + 1); omega) hc hs k
theorem zv_dast (hk : zK p s m args meth c g cc own nL) (hT : l.stackTraces = false) (hd : 160 ≤ d) (hH : zHd g hp H) (hz : H.size = nx) (hS : va_S (zAd g) s.heap H locs) (hl : ls.size = nL) {n : Nat} {f : Nat → UInt64} {i : Int32} {x : UInt64} (er : r = some a) (he : hp a = some (.inl (g.2.1 1, n, .inr (.inr (.inr (.inl f)))))) (hi : ¬ vp_in i n) (hn : n < 2147483648) (hc : kc + 3 ≤ mc) (hs : ks + 222 ≤ ms) (hr : (rest.map fun v => v.category).sum ≤ 64) (hdg : decode cc pc = .ok (.dastore, 1))
    (k : ∀ (H1 : Heap) (q nx1 : Nat), nx ≤ nx1 → zHd g hp H1 → H1.size = nx1 → va_S (zAd g) s.heap H1 locs → zTh s H1 "java/lang/ArrayIndexOutOfBoundsException" q → vx_W p l e (zrm (d + 1) mc ms) s m args below meth c H1 locs (kc + 3) (ks + 222) Q (F0 m pc ls rest) q) :
    W p l e (zrm (d + 1) mc ms) s m args below meth c H locs kc ks Q (F0 m pc ls (.double x :: .int i :: va_rf r :: rest)) := by
  subst er
  refine vx_dastZ hk.1.1 hk.1.2.1 hk.2.1 (hH.P he) 0 1 rfl rfl hi hdg (fun tx etx => ?_)
  subst etx
  exact zv_vm (nb := 212) hk hT hH hz hS hl zVw_AI (index_text_modelled i n) (index_text_bytes i (by omega)) (by decide) (by show 8 ≤ d + 1; omega) (by show _ ≤ 64 * (d + 1); omega) hc hs k
end ZVR
