set_option maxRecDepth 100000
/-! Math.abs of a double: the machine runs an entry in its place -/
section AB
def zb_row : NativeRow := (NativeRow.find? Native.java_lang_Math.nans.rows "java/lang/Math" "abs" "(D)D").get (by decide +kernel)
theorem zb_found (p : Program) : NativeRow.find? p.tables.natives "java/lang/Math" "abs" "(D)D" = some zb_row := by
  cases p <;> rfl
theorem zb_run {a : UInt64} (ha : vf_n64 a) (e : Env) (S : State) : ∃ acts, (zb_row.sem #[.double a]).run e S = .ok (some (.double (a &&& 0x7fffffffffffffff))) S acts := by
  have hsem : zb_row.sem #[.double a] = (do
      let r ← anyNaN64 (a &&& 0x7fffffffffffffff)
      mark "nat.java_lang_Math.abs"
      Pure.pure (some (.double r))) := rfl
  have hn : (a &&& 0x7fffffffffffffff) &&& 0x7fffffffffffffff ≤ 0x7ff0000000000000 := by rw [UInt64.and_assoc, UInt64.and_self]; exact ha
  have hw : wpRun (zb_row.sem #[.double a]) (fun v s₂ _ => v = some (.double (a &&& 0x7fffffffffffffff)) ∧ s₂ = S) (fun _ _ _ => False) e S := by
    rw [hsem]
    simp [jvm, wpRun, anyNaN64, hn]
  have hw' := (wpRun_iff_run _ _ _ _ _).mp hw
  cases hr : (zb_row.sem #[.double a]).run e S with
  | ok v s₂ acts₂ => rw [hr] at hw'; obtain ⟨rfl, rfl⟩ := hw'; exact ⟨_, rfl⟩
  | ctl x s₂ acts₂ => rw [hr] at hw'; cases x <;> exact hw'.elim
theorem zb_over {tb : Tables} {e : Env} {s : State} {f : JFrame} {k : Class} {x : Method} {row : NativeRow} (hpc : f.pc = 0) (hk : s.vm.classes[f.method.cls]? = some k)
    (hin : k.name ∈ overriddenIn) (hboot : k.loader = none) (hx : k.methods[f.method.idx]? = some x) (hrow : NativeRow.find? tb.natives k.name x.name x.desc = some row) :
    overridden tb e s f = some row := by
  unfold overridden
  simp [hpc, hk, hboot, hx, hrow]
  intro h
  exact absurd hin h
def zb_v : Slot → Option Value
  | .val v => some v
  | _ => none
def zb_given (L : Array Slot) (n : Nat) : Array Value := (L.toList.filterMap zb_v).toArray.extract 0 n
theorem zb_step {tb : Tables} {e : Env} {s : State} {f : JFrame} {rest : List Frame} {k : Class} {x : Method} {row : NativeRow} (hf : s.frames = .java f :: rest) (hk : s.vm.classes[f.method.cls]? = some k) (hx : k.methods[f.method.idx]? = some x) (hov : overridden tb e s f = some row) :
    stepThread tb e s = afterNative e { method := f.method, args := zb_given f.locals (x.sig.parameters.length + (if x.isStatic then 0 else 1)), locked := f.locked } rest
      ((row.sem (zb_given f.locals (x.sig.parameters.length + (if x.isStatic then 0 else 1)))).run e (s.setFrames (.native { method := f.method, args := zb_given f.locals (x.sig.parameters.length + (if x.isStatic then 0 else 1)), locked := f.locked } :: rest))) := by
  have hcount : argCount s f.method = x.sig.parameters.length + (if x.isStatic then 0 else 1) := by simp [argCount, hk, hx]
  unfold stepThread
  simp only [hf, hov, hcount, zb_given]
  rfl
theorem zb_go {tb : Tables} {e : Env} {s : State} {m : MethodId} {args : Array Value} {L : Nat} {below fs : List Frame} {k : Class} {meth : Method} {row : NativeRow} {v : Option Value} {acts : List Action} (hcur : s.cur < s.threads.size) (hk : s.vm.classes[m.cls]? = some k) (hx : k.methods[m.idx]? = some meth)
    (hov : overridden tb e (s.setFrames (.java (entryFrame m args L) :: below)) (entryFrame m args L) = some row) (hgv : zb_given (entryFrame m args L).locals (meth.sig.parameters.length + (if meth.isStatic then 0 else 1)) = args)
    (hr2 : (row.sem args).run e (s.setFrames (.native { method := m, args := args } :: below)) = .ok v (s.setFrames (.native { method := m, args := args } :: below)) acts) (hfs : handOver (s.setFrames (.native { method := m, args := args } :: below)) v below = some fs) :
    (stepThread tb e (s.setFrames (.java (entryFrame m args L) :: below))).1 = s.setFrames fs := by
  have hf1 : (s.setFrames (.java (entryFrame m args L) :: below)).frames = .java (entryFrame m args L) :: below := State.frames_setFrames _ hcur
  rw [zb_step (k := k) (x := meth) hf1 hk hx hov, hgv]
  have e1 : (s.setFrames (.java (entryFrame m args L) :: below)).setFrames (.native { method := (entryFrame m args L).method, args := args, locked := (entryFrame m args L).locked } :: below) = s.setFrames (.native { method := m, args := args } :: below) := State.setFrames_setFrames ..
  rw [e1, hr2]
  show (doReturn e (s.setFrames (.native { method := m, args := args } :: below)) acts v).1 = _
  rw [doReturn_native (f := { method := m, args := args }) (below := below) (State.frames_setFrames _ hcur) rfl hfs, State.setFrames_setFrames]
theorem zb_gv {m : MethodId} {x : UInt64} {b : Bool} : zb_given (entryFrame m #[.double x] 2).locals (1 + (if b then 0 else 1)) = #[.double x] := by
  have hL : ((entryFrame m #[.double x] 2).locals.toList.filterMap zb_v).toArray = #[.double x] := by
    simp [entryFrame, argsToLocals, Value.category, zb_v]
  unfold zb_given
  rw [hL]
  cases b <;> simp
theorem t_abs {l : Launch} {g : zG} {d : Nat} {x : UInt64} {hp : zHp} {nx : Nat} {K : UInt64 → zHp → Nat → Prop} (hn : vf_n64 x) (hK : K (x &&& 0x7fffffffffffffff) hp nx) : zMt l g yJ10_abs cJ10_abs 2 (some .double) d 0 0 [.double x] hp nx (zQd g K) := by
  obtain ⟨row, hrow, hrowr⟩ : ∃ row : NativeRow, (∀ p : Program, NativeRow.find? p.tables.natives "java/lang/Math" "abs" "(D)D" = some row) ∧ ∀ (e : Env) (S : State), ∃ acts, (row.sem #[.double x]).run e S = .ok (some (.double (x &&& 0x7fffffffffffffff))) S acts := ⟨zb_row, zb_found, zb_run hn⟩
  generalize hav : (x &&& 0x7fffffffffffffff) = w at hK hrowr
  intro p e ha hc hk s m args below hf happ hP _
  obtain ⟨rfl, hH, hz, hK1, hR, hb⟩ := hP
  obtain ⟨hrun, hable, halone, hname, hhears, hinit, hroom, hpre⟩ := (Spec.appliesLoose_iff hf).mp happ
  have hcw := atoms_spec (ws := ws_ yJ10_abs cJ10_abs 2 (some .double)) hpre _ List.mem_cons_self
  obtain ⟨meth, c, hmeth, hcode, hbytes, hlocals, hret, hlocks, -, hsig⟩ := Cond.code_spec hname hcw
  have hcur := State.cur_lt_of_frames hf
  obtain ⟨k', hk', hkn⟩ := className_of_methodNamed hname
  obtain ⟨hmn, hmd⟩ := name_of_methodNamed hname hmeth
  have hx' : k'.methods[m.idx]? = some meth := by simpa [Vm.method?, hk'] using hmeth
  have hboot : k'.loader = none := Vm.bootOf_findClass (findClass_of_methodNamed hname) hk'
  have hf1 : (s.setFrames (.java (entryFrame m #[.double x] 2) :: below)).frames = .java (entryFrame m #[.double x] 2) :: below := State.frames_setFrames _ hcur
  have hov : overridden p.tables e (s.setFrames (.java (entryFrame m #[.double x] 2) :: below)) (entryFrame m #[.double x] 2) = some row :=
    zb_over (k := k') (x := meth) rfl hk' (by rw [hkn]; decide) hboot hx' (by rw [hkn, hmn, hmd]; exact hrow p)
  have hstep : (stepThread p.tables e s).1 = s.setFrames (.java (entryFrame m #[.double x] 2) :: below) := by
    have hfull : e.platform.stackFull (s.setFrames below).me (s.setFrames below).frames c.maxLocals = false := by
      obtain ⟨-, h1, -, h2⟩ := State.hasRoom_stack hroom
      rw [hf, List.length_cons] at h1
      rw [State.localsInUse_invoking hf hmeth hcode] at h2
      have hw := stackUse_le_stackWeight below
      rw [State.frames_setFrames _ hcur]
      exact Platform.stackFull_eq_false (by rw [State.stackLimits_setFrames]; omega) (by rw [State.stackLimits_setFrames]; omega)
    rw [stepThread_invoking hf, (doInvoke_java (s := s.setFrames below) (e := e) (meth := meth) (code := c) hmeth hcode hlocks hfull).1]
    simp only [State.pushFrame, State.frames_setFrames _ hcur, State.setFrames_setFrames, hlocals, entryFrame]
  obtain ⟨acts2, hr2⟩ := hrowr e (s.setFrames (.native { method := m, args := #[.double x] } :: below))
  obtain ⟨fs, hfs0⟩ := handOver_isSome (s := s) (some (.double w)) hhears
  have hfs : handOver (s.setFrames (.native { method := m, args := #[.double x] } :: below)) (some (.double w)) below = some fs := by
    rw [← hfs0]
    rcases below with _ | ⟨y, r⟩
    · rfl
    · cases y <;> first | rfl | simp [handOver, State.code?_eq, State.setFrames]
  have hsig2 : parseMethodDescriptor "(D)D" = some { parameters := [.double], returnType := some .double } := by decide +kernel
  have hparams : meth.sig.parameters.length = 1 := by
    have h4 := hsig
    rw [show parseMethodDescriptor yJ10_abs.desc = some { parameters := [.double], returnType := some .double } from hsig2] at h4
    rw [← Option.some.inj h4]
    rfl
  have hgv : zb_given (entryFrame m #[.double x] 2).locals (meth.sig.parameters.length + (if meth.isStatic then 0 else 1)) = #[.double x] := by
    rw [hparams]
    exact zb_gv
  have hstep2 : (stepThread p.tables e (s.setFrames (.java (entryFrame m #[.double x] 2) :: below))).1 = s.setFrames fs := zb_go hcur hk' hx' hov hgv hr2 hfs
  have hends : Ended (s.setFrames fs) below (.returned (some (.double w))) := by
    refine ended_of_handOver hfs0 hcur ?_
    have hh := hhears
    rcases below with _ | ⟨y, r⟩
    · simp only [State.hears, hmeth, Option.any_some, Option.isNone_iff_eq_none, hret] at hh
      cases hh
    · cases y
      case java g => exact Or.inr ⟨_, _, rfl, trivial⟩
      case native g => exact Or.inr ⟨_, _, rfl, trivial⟩
      case proc g => exact Or.inr ⟨_, _, rfl, trivial⟩
      all_goals
        simp only [State.hears, hmeth, Option.any_some, Option.isNone_iff_eq_none, hret] at hh
        cases hh
  have hS : Steps p.tables e below s (s.setFrames fs) := by
    refine Steps.head (tb := p.tables) (e := e) ⟨hrun, hable, halone⟩ ⟨[.invoking m #[.double x]], hf, by simp, by simp⟩ ?_
    rw [hstep]
    refine Steps.head ⟨hrun, by simpa using hable, by simpa using halone⟩ ⟨[.java (entryFrame m #[.double x] 2)], by rw [hf1]; rfl, by simp, by simp⟩ ?_
    rw [hstep2]
    exact Steps.refl _
  obtain ⟨n, hn1, hw⟩ := hS
  refine ⟨n, .returned (some (.double w)), hw, hn1 ▸ hrun, hn1 ▸ hends, ?_⟩
  rw [hn1]
  obtain ⟨t, ht, -⟩ := State.frames_cons hf
  refine ⟨⟨⟨_, (hp, nx), rfl, hK, hH, hz, va_K.moved (u := s) (U := s.setFrames fs) (Vm.Alike.refl s.vm) hK1, zRO.same (u := s) (U := s.setFrames fs) rfl hR, hb⟩, Nat.le_refl _, fun _ _ _ => rfl⟩, [], ⟨⟨_, rfl⟩, State.WarmedH.refl s, (State.sameButNew.refl s ht).setFrames fs hcur⟩, fun q hq => by cases hq⟩
end AB
