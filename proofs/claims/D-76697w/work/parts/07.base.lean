set_option maxRecDepth 100000
abbrev zcl : List vw_C := [(RX0, TX0, 30), (RX1, TX1, 13), (RX2, TX2, 3), (RX3, TX3, 1), (RX4, TX4, 7), (RX5, TX5, 76), (RX6, TX6, 3), (RX7, TX7, 3), (RX8, TX8, 3), (RX9, TX9, 3), (RX10, TX10, 3), (RX11, TX11, 10), (RX12, TX12, 7), (RX0, TX0, 30), (RX14, TX14, 5), (RX0, TX0, 30), (RX16, TX16, 5), (RX17, TX17, 6), (RX18, TX18, 3), (RX19, TX19, 4), (RX20, TX20, 5), (RX21, TX21, 6), (RX22, TX22, 4), (RX23, TX23, 3), (RX24, TX24, 3), (RX25, TX25, 3), (RX26, TX26, 5), (RX27, TX27, 6), (RX28, TX28, 3), (RX29, TX29, 6), (RX30, TX30, 3), (RX31, TX31, 4), (RX32, TX32, 2), (RX33, TX33, 11), (RJ0, TJ0, 3), (RJ17, TJ17, 3), (RJ27, TJ27, 4), (RJ29, TJ29, 3), (RJ21, TJ21, 5), (RJ6, TJ6, 4), (RJ7, TJ7, 4), (RJ15, TJ15, 1)]
theorem zcl_ok : ∀ (ci : Nat) (q : vw_C), zcl[ci]? = some q → ∀ w ∈ u_ws q.1 q.2.1 q.2.2, w ∈ lw_all := by
  intro ci q h
  match ci, h with
  | 0, h => cases h; exact in_X0
  | 1, h => cases h; exact in_X1
  | 2, h => cases h; exact in_X2
  | 3, h => cases h; exact in_X3
  | 4, h => cases h; exact in_X4
  | 5, h => cases h; exact in_X5
  | 6, h => cases h; exact in_X6
  | 7, h => cases h; exact in_X7
  | 8, h => cases h; exact in_X8
  | 9, h => cases h; exact in_X9
  | 10, h => cases h; exact in_X10
  | 11, h => cases h; exact in_X11
  | 12, h => cases h; exact in_X12
  | 13, h => cases h; exact in_X0
  | 14, h => cases h; exact in_X14
  | 15, h => cases h; exact in_X0
  | 16, h => cases h; exact in_X16
  | 17, h => cases h; exact in_X17
  | 18, h => cases h; exact in_X18
  | 19, h => cases h; exact in_X19
  | 20, h => cases h; exact in_X20
  | 21, h => cases h; exact in_X21
  | 22, h => cases h; exact in_X22
  | 23, h => cases h; exact in_X23
  | 24, h => cases h; exact in_X24
  | 25, h => cases h; exact in_X25
  | 26, h => cases h; exact in_X26
  | 27, h => cases h; exact in_X27
  | 28, h => cases h; exact in_X28
  | 29, h => cases h; exact in_X29
  | 30, h => cases h; exact in_X30
  | 31, h => cases h; exact in_X31
  | 32, h => cases h; exact in_X32
  | 33, h => cases h; exact in_X33
  | 34, h => cases h; exact in_J0
  | 35, h => cases h; exact in_J17
  | 36, h => cases h; exact in_J27
  | 37, h => cases h; exact in_J29
  | 38, h => cases h; exact in_J21
  | 39, h => cases h; exact in_J6
  | 40, h => cases h; exact in_J7
  | 41, h => cases h; exact in_J15
  | k + 42, h => simp [zcl] at h
theorem zcl_ty : ∀ (ci : Nat) (q : vw_C), zcl[ci]? = some q → ∃ ty0 : Nat → FieldType, (∀ k, k < q.2.2 → parseFieldDescriptor (q.2.1 k).2.2.1 = some (ty0 k)) ∧ (∀ a, a < q.2.2 → ∀ b, b < q.2.2 → a ≠ b → (q.2.1 a).2.1 ≠ (q.2.1 b).2.1 ∨ (q.2.1 a).1 ≠ (q.2.1 b).1) := by
  intro ci q h
  match ci, h with
  | 0, h => cases h; exact ⟨tyX0, tyX0_ok, fun a ha b hb h => Or.inl (nmX0 a ha b hb h)⟩
  | 1, h => cases h; exact ⟨tyX1, tyX1_ok, fun a ha b hb h => Or.inl (nmX1 a ha b hb h)⟩
  | 2, h => cases h; exact ⟨tyX2, tyX2_ok, fun a ha b hb h => Or.inl (nmX2 a ha b hb h)⟩
  | 3, h => cases h; exact ⟨tyX3, tyX3_ok, fun a ha b hb h => Or.inl (nmX3 a ha b hb h)⟩
  | 4, h => cases h; exact ⟨tyX4, tyX4_ok, fun a ha b hb h => Or.inl (nmX4 a ha b hb h)⟩
  | 5, h => cases h; exact ⟨tyX5, tyX5_ok, fun a ha b hb h => Or.inl (nmX5 a ha b hb h)⟩
  | 6, h => cases h; exact ⟨tyX6, tyX6_ok, fun a ha b hb h => Or.inl (nmX6 a ha b hb h)⟩
  | 7, h => cases h; exact ⟨tyX7, tyX7_ok, fun a ha b hb h => Or.inl (nmX7 a ha b hb h)⟩
  | 8, h => cases h; exact ⟨tyX8, tyX8_ok, fun a ha b hb h => Or.inl (nmX8 a ha b hb h)⟩
  | 9, h => cases h; exact ⟨tyX9, tyX9_ok, fun a ha b hb h => Or.inl (nmX9 a ha b hb h)⟩
  | 10, h => cases h; exact ⟨tyX10, tyX10_ok, fun a ha b hb h => Or.inl (nmX10 a ha b hb h)⟩
  | 11, h => cases h; exact ⟨tyX11, tyX11_ok, fun a ha b hb h => Or.inl (nmX11 a ha b hb h)⟩
  | 12, h => cases h; exact ⟨tyX12, tyX12_ok, fun a ha b hb h => Or.inl (nmX12 a ha b hb h)⟩
  | 13, h => cases h; exact ⟨tyX0, tyX0_ok, fun a ha b hb h => Or.inl (nmX0 a ha b hb h)⟩
  | 14, h => cases h; exact ⟨tyX14, tyX14_ok, by decide +kernel⟩
  | 15, h => cases h; exact ⟨tyX0, tyX0_ok, fun a ha b hb h => Or.inl (nmX0 a ha b hb h)⟩
  | 16, h => cases h; exact ⟨tyX16, tyX16_ok, by decide +kernel⟩
  | 17, h => cases h; exact ⟨tyX17, tyX17_ok, by decide +kernel⟩
  | 18, h => cases h; exact ⟨tyX18, tyX18_ok, by decide +kernel⟩
  | 19, h => cases h; exact ⟨tyX19, tyX19_ok, by decide +kernel⟩
  | 20, h => cases h; exact ⟨tyX20, tyX20_ok, by decide +kernel⟩
  | 21, h => cases h; exact ⟨tyX21, tyX21_ok, by decide +kernel⟩
  | 22, h => cases h; exact ⟨tyX22, tyX22_ok, by decide +kernel⟩
  | 23, h => cases h; exact ⟨tyX23, tyX23_ok, by decide +kernel⟩
  | 24, h => cases h; exact ⟨tyX24, tyX24_ok, by decide +kernel⟩
  | 25, h => cases h; exact ⟨tyX25, tyX25_ok, by decide +kernel⟩
  | 26, h => cases h; exact ⟨tyX26, tyX26_ok, by decide +kernel⟩
  | 27, h => cases h; exact ⟨tyX27, tyX27_ok, by decide +kernel⟩
  | 28, h => cases h; exact ⟨tyX28, tyX28_ok, fun a ha b hb h => Or.inl (nmX28 a ha b hb h)⟩
  | 29, h => cases h; exact ⟨tyX29, tyX29_ok, by decide +kernel⟩
  | 30, h => cases h; exact ⟨tyX30, tyX30_ok, fun a ha b hb h => Or.inl (nmX30 a ha b hb h)⟩
  | 31, h => cases h; exact ⟨tyX31, tyX31_ok, fun a ha b hb h => Or.inl (nmX31 a ha b hb h)⟩
  | 32, h => cases h; exact ⟨tyX32, tyX32_ok, fun a ha b hb h => Or.inl (nmX32 a ha b hb h)⟩
  | 33, h => cases h; exact ⟨tyX33, tyX33_ok, fun a ha b hb h => Or.inl (nmX33 a ha b hb h)⟩
  | 34, h => cases h; exact ⟨tyJ0, tyJ0_ok, fun a ha b hb h => Or.inl (nmJ0 a ha b hb h)⟩
  | 35, h => cases h; exact ⟨tyJ17, tyJ17_ok, fun a ha b hb h => Or.inl (nmJ17 a ha b hb h)⟩
  | 36, h => cases h; exact ⟨tyJ27, tyJ27_ok, fun a ha b hb h => Or.inl (nmJ27 a ha b hb h)⟩
  | 37, h => cases h; exact ⟨tyJ29, tyJ29_ok, fun a ha b hb h => Or.inl (nmJ29 a ha b hb h)⟩
  | 38, h => cases h; exact ⟨tyJ21, tyJ21_ok, fun a ha b hb h => Or.inl (nmJ21 a ha b hb h)⟩
  | 39, h => cases h; exact ⟨tyJ6, tyJ6_ok, fun a ha b hb h => Or.inl (nmJ6 a ha b hb h)⟩
  | 40, h => cases h; exact ⟨tyJ7, tyJ7_ok, fun a ha b hb h => Or.inl (nmJ7 a ha b hb h)⟩
  | 41, h => cases h; exact ⟨tyJ15, tyJ15_ok, fun a ha b hb h => Or.inl (nmJ15 a ha b hb h)⟩
  | k + 42, h => simp [zcl] at h
/-- the slot that a class lays is the field's of its declarer -/
theorem z_decl {args : Array Value} {s : State} {C O f d : String} (h : (Cond.lays C O f d).before args s = true ∨ (Cond.laysFinal C O f d).before args s = true) {cf i : Nat} {kf : Class} {fd : Field} (hi : s.fieldFound? O f d = some (cf, kf, i, fd)) : ∃ (a : ClassId) (x : Class × Field), s.vm.findClass C = some a ∧ Jmm.declares? s.vm fd.slot (a + 1) a = some x ∧ x.1.name = O := by
  have hk : ∀ {c' : ClassId} {k' : Class} {i' : Nat} {f' : Field}, s.fieldFound? O f d = some (c', k', i', f') → s.vm.findClass O = some c' → k'.name = O := by
    intro c' k' i' f' hf ho
    obtain ⟨k2, h1, h2⟩ := Vm.findClass_spec ho
    have h3 := (State.fieldFound?_spec hf)
    obtain ⟨h4, -⟩ := h3
    first
      | (rw [h4] at h1; cases h1; exact h2)
      | (have h5 := h4.2; rw [h5] at h1; cases h1; exact h2)
  rcases h with h | h
  · have ho := Cond.lays_declared h hi
    obtain ⟨a, _, _, _, _, g', ha, _, hg, _, _, _, _, x, hx, hn, -⟩ := Cond.lays_spec h
    cases hi.symm.trans hg
    exact ⟨a, x, ha, hx, hn.trans (hk hi ho)⟩
  · obtain ⟨a, _, _, _, _, g', ha, _, hg, _, _, _, ho, _, x, hx, hn, -⟩ := Cond.laysFinal_spec h
    cases hi.symm.trans hg
    exact ⟨a, x, ha, hx, hn.trans (hk hi ho)⟩
theorem z_apart {args : Array Value} {s : State} {C O f d O' f' d' : String} (h : (Cond.lays C O f d).before args s = true ∨ (Cond.laysFinal C O f d).before args s = true) (h' : (Cond.lays C O' f' d').before args s = true ∨ (Cond.laysFinal C O' f' d').before args s = true)
    {cf kf fi fd cf' kf' fi' fd'} (hi : s.fieldFound? O f d = some (cf, kf, fi, fd)) (hi' : s.fieldFound? O' f' d' = some (cf', kf', fi', fd')) (hne : O ≠ O') : fd.slot ≠ fd'.slot := by
  obtain ⟨a, x, h1, h2, h3⟩ := z_decl h hi
  obtain ⟨a', x', h1', h2', h3'⟩ := z_decl h' hi'
  cases h1.symm.trans h1'
  intro hs
  rw [hs] at h2
  cases h2.symm.trans h2'
  exact hne (h3.symm.trans h3')
theorem zva_apart {args : Array Value} {s : State} {D : va_G} {cl : List vw_C} {tys : List (ClassId × FieldType)} {C : String} {T : u_T} {N ci : Nat} {Ts : List Cond} (hts : ∀ w ∈ Ts, w.before args s = true) (hin : ∀ w ∈ u_ws C T N, w ∈ Ts) (ty : Nat → FieldType) (hty : ∀ k, k < N → parseFieldDescriptor (T k).2.2.1 = some (ty k)) (hnm : ∀ a, a < N → ∀ b, b < N → a ≠ b → (T a).2.1 ≠ (T b).2.1 ∨ (T a).1 ≠ (T b).1) (hK : va_K D cl tys s) (hc : cl[ci]? = some (C, T, N)) : ∀ x y, x < N → y < N → x ≠ y → (D.2 ci) x ≠ (D.2 ci) y := by
  intro x y hx hy hne
  obtain ⟨hS, -⟩ := hK.1 ci _ hc
  obtain ⟨_, _, _, fa, hia, ea⟩ := hS x hx
  obtain ⟨_, _, _, fb, hib, eb⟩ := hS y hy
  rw [← ea, ← eb]
  rcases hnm x hx y hy hne with h | h
  · refine u_apart (u_lays hts hin hx) (u_lays hts hin hy) hia hib ?_
    rw [(State.fieldFound?_type hia (hty x hx)).1, (State.fieldFound?_type hib (hty y hy)).1]
    exact h
  · exact z_apart (u_lays hts hin hx) (u_lays hts hin hy) hia hib h
/-! the array classes by number: int, double, byte, boolean, long, float, char, then arrays of references -/
def zty (dA : Nat → ClassId) : List (ClassId × FieldType) := [(dA 0, .int), (dA 1, .double), (dA 2, .byte), (dA 3, .boolean), (dA 4, .long), (dA 5, .float), (dA 6, .char), (dA 7, .object "WhatIfSheet$Plain"), (dA 8, .object "WhatIfSheet$Table"), (dA 9, .object "WhatIfSheet$Sight"), (dA 10, .object "java/util/BitSet"), (dA 11, .object "WhatIfSheet$Formula"), (dA 12, .object "WhatIfSheet$Row"), (dA 13, .object "java/lang/Object"), (dA 14, .array .int), (dA 15, .array .double), (dA 16, .array .boolean), (dA 17, .object "java/lang/Integer")]
abbrev zHp : Type := Nat → Option va_E
/-- what stays all through the run: the classes' numbers and slots, the array classes, the first address that is ours, the Integer cache, the String constants -/
abbrev zG : Type := va_G × (Nat → ClassId) × Nat × Nat × (Nat → Nat)
def zB (g : zG) : Nat := g.2.2.1
def zAd (g : zG) : Nat → Prop := fun q => zB g ≤ q
def zHd (g : zG) (hp : zHp) (H : Heap) : Prop := ∀ (a : Nat) (e : va_E), hp a = some e → va_at g.1 zcl (a, e) H
/-- words that ride by warmth alone -/
def zwk : Cond → Bool
  | .fieldLinkNest _ _ _ _ _ _ => true
  | .methodLinkNest _ _ _ _ => true
  | .castable _ _ => true
  | .declares _ => true
  | .privateMethod _ => true
  | _ => false
theorem zwk_warm {w : Cond} (hw : zwk w = true) {s U : State} (hW : s.WarmedH U.vm) (h : va_Nw w s) : va_Nw w U := by
  unfold zwk at hw
  split at hw
  · exact va_Nw.warmF hW h
  · exact va_Nw.warmM hW h
  · exact va_Nw.warmC hW h
  · exact va_Nw.warmD hW h
  · exact Cond.privateMethod_warm hW h
  · cases hw
theorem zwk_on {w : Cond} (hw : zwk w = true) : w.onTables = true := by
  unfold zwk at hw
  split at hw
  · rfl
  · rfl
  · rfl
  · rfl
  · rfl
  · cases hw
def zST (g : zG) : List (String × String × String × Value) := [("java/util/BitSet", "$assertionsDisabled", "Z", .int 1), ("java/lang/Integer$IntegerCache", "high", "I", .int 127), ("java/lang/String", "COMPACT_STRINGS", "Z", .int 1), ("java/lang/Integer$IntegerCache", "cache", "[Ljava/lang/Integer;", .ref g.2.2.2.1)]
def zSC : List (String × Nat × String) := [("WhatIfSheet$Reader", 78, "(),+-*/%<="), ("WhatIfSheet$Reader", 187, "pick"), ("WhatIfSheet$Reader", 195, "min"), ("WhatIfSheet$Reader", 197, "max"), ("WhatIfSheet$Reader", 136, "sum"), ("WhatIfSheet$Reader", 138, "mean"), ("WhatIfSheet$Reader", 140, "least"), ("WhatIfSheet$Reader", 142, "most"), ("WhatIfSheet$Reader", 203, "fails"), ("WhatIfSheetModel", 402, "sum"), ("WhatIfSheetModel", 408, "mean"), ("WhatIfSheetModel", 410, "least"), ("WhatIfSheetModel", 411, "most"), ("WhatIfSheetModel", 413, "fails"), ("WhatIfSheetModel", 415, "pick"), ("WhatIfSheetModel", 416, "min"), ("WhatIfSheetModel", 417, "max"), ("WhatIfSheetModel", 381, "(),+-*/%<=")]
def zAO : List String := ["WhatIfSheet$Plain", "WhatIfSheet$Table", "WhatIfSheet$Sight", "java/util/BitSet", "WhatIfSheet$Formula", "WhatIfSheet$Row", "java/lang/Object"]
def zAA : List FieldType := [.int, .double, .boolean]
theorem z_AAm {ty : FieldType} {u U : State} (hvm : u.vm.Alike U.vm) (h : (Cond.arrayOver (.array ty)).before #[] u = true) : (Cond.arrayOver (.array ty)).before #[] U = true := by
  unfold Cond.before Cond.holds at h ⊢
  simp only [Cond.value] at h ⊢
  have f1 := hvm.findClass (FieldType.array ty).toString none
  have f2 := hvm.findClass ("[" ++ (FieldType.array ty).toString) none
  rw [f1, f2]
  cases hc : u.vm.findClass (FieldType.array ty).toString with
  | none => rw [hc] at h; simp at h
  | some comp =>
    rw [hc] at h
    simp only [Option.bind_some] at h ⊢
    have hi : (U.vm.classes.findIdx? fun (x : Class) => match x.kind with | .array component _ => component == comp | _ => false) = (u.vm.classes.findIdx? fun (x : Class) => match x.kind with | .array component _ => component == comp | _ => false) := by
      have e1 := va_idx_bare U.vm comp
      have e2 := va_idx_bare u.vm comp
      rw [hvm.bare_eq] at e1
      exact e1.symm.trans e2
    cases hx : (u.vm.classes.findIdx? fun (x : Class) => match x.kind with | .array component _ => component == comp | _ => false) with
    | none => erw [hx] at h; simp at h
    | some c =>
      erw [hx] at h
      erw [hi, hx]
      simp only [Option.bind_some] at h ⊢
      cases hk : u.vm.classes[c]? with
      | none => rw [hk] at h; simp at h
      | some k =>
        obtain ⟨k', hk', he⟩ := hvm.2.2 _ _ hk
        rw [hk] at h
        rw [hk']
        have hkk : k'.kind = k.kind := by rw [he]
        simp only [Option.map_some] at h ⊢
        rw [hkk]
        exact h
def zFW : List (String × MethodName × MethodName) := [("java/util/LinkedList$ListItr", ⟨"java/util/Iterator", "hasNext", "()Z"⟩, ⟨"java/util/LinkedList$ListItr", "hasNext", "()Z"⟩), ("java/util/LinkedList$ListItr", ⟨"java/util/Iterator", "next", "()Ljava/lang/Object;"⟩, ⟨"java/util/LinkedList$ListItr", "next", "()Ljava/lang/Object;"⟩)]
/-- what can't be cast to what -/
def zNC : List (String × String) := [("[B", "[I"), ("[B", "[F"), ("[B", "[D"), ("[I", "[B"), ("[I", "[F"), ("[I", "[D"), ("[F", "[B"), ("[F", "[I"), ("[F", "[D"), ("[D", "[B"), ("[D", "[I"), ("[D", "[F"), ("WhatIfSheet$Plain", "WhatIfSheet$Whole"), ("WhatIfSheet$Plain", "WhatIfSheet$Single"), ("WhatIfSheet$Plain", "WhatIfSheet$Small"), ("WhatIfSheet$Plain", "WhatIfSheet$Turn"), ("WhatIfSheet$Plain", "WhatIfSheet$Capped"), ("WhatIfSheet$Whole", "WhatIfSheet$Single"), ("WhatIfSheet$Whole", "WhatIfSheet$Small"), ("WhatIfSheet$Whole", "WhatIfSheet$Turn"), ("WhatIfSheet$Whole", "WhatIfSheet$Capped"), ("WhatIfSheet$Single", "WhatIfSheet$Whole"), ("WhatIfSheet$Single", "WhatIfSheet$Small"), ("WhatIfSheet$Single", "WhatIfSheet$Turn"), ("WhatIfSheet$Single", "WhatIfSheet$Capped"), ("WhatIfSheet$Small", "WhatIfSheet$Single"), ("WhatIfSheet$Small", "WhatIfSheet$Turn"), ("WhatIfSheet$Small", "WhatIfSheet$Capped"), ("WhatIfSheet$Turn", "WhatIfSheet$Whole"), ("WhatIfSheet$Turn", "WhatIfSheet$Small"), ("WhatIfSheet$Turn", "WhatIfSheet$Capped"), ("WhatIfSheet$Capped", "WhatIfSheet$Whole"), ("WhatIfSheet$Capped", "WhatIfSheet$Single"), ("WhatIfSheet$Capped", "WhatIfSheet$Small"), ("WhatIfSheet$Capped", "WhatIfSheet$Turn"), ("java/lang/ArrayIndexOutOfBoundsException", "java/lang/ClassCastException"), ("java/lang/ArrayIndexOutOfBoundsException", "java/lang/ArrayStoreException")]
/-- statics that hold null or some reference -/
def zZQ : List (String × String × String) := [("java/lang/Throwable", "UNASSIGNED_STACK", "[Ljava/lang/StackTraceElement;"), ("java/lang/Throwable", "SUPPRESSED_SENTINEL", "Ljava/util/List;"), ("jdk/internal/util/Preconditions", "SIOOBE_FORMATTER", "Ljava/util/function/BiFunction;")]
/-- what the tables and the old heap say, all through -/
def zRO (g : zG) (U : State) (H : Heap) : Prop :=
  (∀ w ∈ lw_tbl, zwk w = true → va_Nw w U) ∧ (∀ q ∈ zST g, va_Z q.1 q.2.1 q.2.2.1 q.2.2.2 (zAd g) U H) ∧ (∀ (i : Nat) (q : String × Nat × String), zSC[i]? = some q → vk_R q.1 q.2.1 q.2.2 (g.2.2.2.2 i) U) ∧ (∀ C ∈ zAO, va_AO C U) ∧ (∀ q ∈ zFW, va_Fw q.1 q.2.1 q.2.2 U) ∧ (∀ ty ∈ zAA, (Cond.arrayOver (.array ty)).before #[] U = true) ∧ (∀ q ∈ zNC, va_Nc q.1 q.2 U) ∧ (∀ q ∈ zZQ, vx_Zq q.1 q.2.1 q.2.2 (zAd g) U H)
theorem zRO.warm {g : zG} {s U : State} {H : Heap} (hW : s.WarmedH U.vm) (hz : s.heap.size ≤ H.size) (hq : ∀ q, q < s.heap.size → ¬ zAd g q → H[q]? = s.heap[q]?) (h : zRO g s s.heap) : zRO g U H := by
  obtain ⟨h1, h2, h3, h4, h5, h6, h7, h8⟩ := h
  refine ⟨fun w hw hk => zwk_warm hk hW (h1 w hw hk), fun q hq' => ((h2 q hq').moved hW.alike).kept hq, fun i q hi => (h3 i q hi).warm hW, fun C hC => (h4 C hC).moved hW.alike, fun q hm => ?_, fun ty ht => z_AAm hW.alike (h6 ty ht), fun q hm => (h7 q hm).moved hW.alike, fun q hm => ((h8 q hm).moved hW.alike).kept hq⟩
  refine va_Fw.moved ?_ hW.alike (h5 q hm)
  simp only [zFW, List.mem_cons, List.not_mem_nil, or_false] at hm
  rcases hm with e | e <;> (subst e; decide +kernel)
theorem zRO.same {g : zG} {u U : State} {H : Heap} (hv : U.vm = u.vm) (h : zRO g u H) : zRO g U H := by
  obtain ⟨h1, h2, h3, h4, h5, h6, h7, h8⟩ := h
  have ha : u.vm.Alike U.vm := by rw [hv]; exact Vm.Alike.refl _
  refine ⟨fun w hw hk => (h1 w hw hk).same (zwk_on hk) hv.symm, fun q hq' => (h2 q hq').moved ha, fun i q hi => (h3 i q hi).same hv, fun C hC => (h4 C hC).moved ha, fun q hm => ?_, fun ty ht => z_AAm ha (h6 ty ht), fun q hm => (h7 q hm).moved ha, fun q hm => (h8 q hm).moved ha⟩
  refine va_Fw.moved ?_ ha (h5 q hm)
  simp only [zFW, List.mem_cons, List.not_mem_nil, or_false] at hm
  rcases hm with e | e <;> (subst e; decide +kernel)
/-- a state whose heap holds hp, of size nx -/
def zSt (g : zG) (hp : zHp) (nx : Nat) (U : State) : Prop := zHd g hp U.heap ∧ U.heap.size = nx ∧ va_K g.1 zcl (zty g.2.1) U ∧ zRO g U U.heap ∧ zB g ≤ nx
/-- a method's own standing: machine, code, class, tables -/
def zK (p : Program) (s : State) (m : MethodId) (args : Array Value) (meth : Method) (c : Code) (g : zG) (cc : ByteArray) (own : String) (nL : Nat) : Prop :=
  CallFix p m c cc nL s args lw_all own ∧ va_K g.1 zcl (zty g.2.1) s ∧ zRO g s s.heap ∧ zB g ≤ s.heap.size ∧ meth.locks = false
def zQv (g : zG) (K : zHp → Nat → Prop) : Array Value → State → Outcome → State → Prop := va_Qv (fun u : zHp × Nat => K u.1 u.2) (fun u t => zSt g u.1 u.2 t) (zAd g)
def zQi (g : zG) (K : Int32 → zHp → Nat → Prop) : Array Value → State → Outcome → State → Prop := va_Qi (fun r (u : zHp × Nat) => K r u.1 u.2) (fun u t => zSt g u.1 u.2 t) (zAd g)
def zQl (g : zG) (K : Int64 → zHp → Nat → Prop) : Array Value → State → Outcome → State → Prop := va_Ql (fun r (u : zHp × Nat) => K r u.1 u.2) (fun u t => zSt g u.1 u.2 t) (zAd g)
def zQd (g : zG) (K : UInt64 → zHp → Nat → Prop) : Array Value → State → Outcome → State → Prop := va_Qd (fun r (u : zHp × Nat) => K r u.1 u.2) (fun u t => zSt g u.1 u.2 t) (zAd g)
def zQq (g : zG) (K : Option Nat → zHp → Nat → Prop) : Array Value → State → Outcome → State → Prop := va_Qq (fun r (u : zHp × Nat) => K r u.1 u.2) (fun u t => zSt g u.1 u.2 t) (zAd g)
abbrev zrm (d mc ms : Nat) : Room := { frames := d, cells := mc, slots := ms, locals := 64 * d }
/-- the contract: called with av where the heap holds hp, it returns, and Q; room for d frames, mc cells, ms slots -/
def zMt (l : Launch) (g : zG) (y : MethodName) (cc : ByteArray) (L : Nat) (ret : Option FieldType) (d mc ms : Nat) (av : List Value) (hp : zHp) (nx : Nat) (Q : Array Value → State → Outcome → State → Prop) : Prop :=
  Met l y (ws_ y cc L ret) (zrm d mc ms) (va_Pc av (zSt g hp nx)) Q mc ms (zAd g)
theorem zSt.blind {g : zG} {hp : zHp} {nx : Nat} {av : List Value} : FrameBlind (va_Pc av (zSt g hp nx)) := by
  intro a U f mk h
  obtain ⟨h0, h1, h2, h3, h4, h5⟩ := h
  exact ⟨h0, h1, h2, va_K.moved (u := U) (U := U.calling f mk a) (Vm.Alike.refl U.vm) h3, zRO.same (u := U) (U := U.calling f mk a) rfl h4, h5⟩
section ZR
variable {p : Program} {l : Launch} {e : Env} {R : Room} {s : State} {m : MethodId} {args : Array Value} {below : List Frame} {meth : Method} {c : Code} {H : Heap} {locs : List Loc} {kc ks : Nat} {Q : State → Prop}
variable {cc : ByteArray} {pc : Nat} {ls : Array Slot} {rest : List Value} {g : zG} {own : String} {nL : Nat} {hp : zHp} {nx : Nat} {a : Nat}
theorem zK.st (hk : zK p s m args meth c g cc own nL) (hH : zHd g hp H) (hz : H.size = nx) (hS : va_S (zAd g) s.heap H locs) {t : State} (ht : t.heap = H) (hW : s.WarmedH t.vm) : zSt g hp nx t := by
  obtain ⟨-, h2, h3, h4, -⟩ := hk
  refine ⟨by rw [ht]; exact hH, by rw [ht]; exact hz, va_K.moved hW.alike h2, by rw [ht]; exact zRO.warm hW hS.1 hS.2.1 h3, ?_⟩
  rw [← hz]
  exact Nat.le_trans h4 hS.1
theorem zHd.P (hH : zHd g hp H) {e : va_E} (he : hp a = some e) : va_P g.1 zcl [(a, e)] H := by
  intro k q hq
  cases k with
  | zero => cases hq; exact hH a e he
  | succ k => simp at hq
theorem zHd.set (h : zHd g hp H) {a : Nat} {e : va_E} {H1 : Heap} (he : va_at g.1 zcl (a, e) H1) (oq : ∀ q : Nat, q ≠ a → H1[q]? = H[q]?) : zHd g (va_up hp a (some e)) H1 := by
  intro q x hq
  by_cases hqa : q = a
  · subst hqa
    simp only [va_up, if_true] at hq
    cases hq
    exact he
  · simp only [va_up, if_neg hqa] at hq
    exact (h q x hq).kept (oq q hqa)
theorem zHd.push (h : zHd g hp H) (hz : H.size = nx) {e : va_E} {H1 : Heap} (he : va_at g.1 zcl (nx, e) H1) (oq : ∀ q : Nat, q < nx → H1[q]? = H[q]?) : zHd g (va_up hp nx (some e)) H1 := by
  intro q x hq
  by_cases hqa : q = nx
  · subst hqa
    simp only [va_up, if_true] at hq
    cases hq
    exact he
  · simp only [va_up, if_neg hqa] at hq
    have h1 := h q x hq
    exact h1.kept (oq q (by rw [← hz]; exact h1.lt))
theorem zHd.lt (h : zHd g hp H) (hz : H.size = nx) : ∀ (a : Nat) (e : va_E), hp a = some e → a < nx := fun a e he => by rw [← hz]; exact (h a e he).lt
/-- the start of a method's walk -/
theorem z_start {y : MethodName} {L : Nat} {ret : Option FieldType} {d mc ms : Nat} {av : List Value} {Qc : Array Value → State → Outcome → State → Prop} (hy : plainName y.cls = true) (hL : (lg_sl av).length ≤ L)
    (body : ∀ (p : Program) (e : Env) (s : State) (m : MethodId) (below : List Frame) (meth : Method) (c : Code), zK p s m av.toArray meth c g cc y.cls L → meth.sig.returnType = ret → meth.name = y.name → zHd g hp s.heap → s.heap.size = nx → ∀ ls : Array Slot, lv_has ls L (lv_args 0 av) →
      W p l e (zrm d mc ms) s m av.toArray below meth c s.heap [] 0 0 (MQ below Qc av.toArray s mc ms (zAd g)) (F0 m 0 ls [])) : zMt l g y cc L ret d mc ms av hp nx Qc := by
  refine Met.ofW (cc := cc) (maxL := L) (ret := ret) hy rfl ?_
  intro p e s m args below meth c s₁ B hml hv
  obtain ⟨rfl, hH, hz, hK, hR, hb⟩ := hv
  have hts := atoms_spec (ws := ws_ y cc L ret) B.pre
  have hts : ∀ w ∈ lw_all, w.before _ s = true := fun w h => hts w (List.mem_cons_of_mem _ h)
  have hown : s.vm.findClass y.cls = some m.cls := findClass_of_methodNamed B.named
  have hin : meth.name = y.name := (name_of_methodNamed B.named B.method).1
  have hl := lv_entry av (n := L) hL
  rw [lg_entry_eq]
  exact body p e s m below meth c ⟨⟨B.exec, B.bytes, hml, hown, hts⟩, hK, hR, by rw [hz]; exact hb, B.notSynchronized⟩ B.returns hin hH hz _ hl
/-- a field of a class of the list, by the own class's entry -/
def zFk (own : String) (idx ci k : Nat) : Prop := ∃ (C : String) (T : u_T) (N : Nat), zcl[ci]? = some (C, T, N) ∧ k < N ∧ Cond.fieldLink own idx (T k).1 (T k).2.1 (T k).2.2.1 ∈ lw_all
theorem zr_get (hk : zK p s m args meth c g cc own nL) (hH : zHd g hp H) {ci k idx : Nat} {fs : List Value} {v : Value} (he : hp a = some (.inr (ci, fs))) (hv : fs[k]? = some v) (hf : zFk own idx ci k) (hdg : decode cc pc = .ok (.getfield idx, 3))
    (kk : W p l e R s m args below meth c H locs kc ks Q (F0 m (pc + 3) ls (v :: rest))) : W p l e R s m args below meth c H locs kc ks Q (F0 m pc ls (.ref a :: rest)) := by
  obtain ⟨C, T, N, h1, h2, h3⟩ := hf
  obtain ⟨⟨hx, hb, hml, hown, hts⟩, hK, -⟩ := hk
  exact va_get hx hb hts (zcl_ok ci _ h1) hown hK (hH.P he) 0 rfl h1 k h2 (hts _ h3) (fun _ h => h) hv hdg kk
def zFp (own : String) (idx ci k : Nat) (ty : FieldType) : Prop := ∃ (C : String) (T : u_T) (N : Nat), zcl[ci]? = some (C, T, N) ∧ k < N ∧ Cond.fieldLink own idx (T k).1 (T k).2.1 (T k).2.2.1 ∈ lw_all ∧ (T k).2.2.2 = false ∧ parseFieldDescriptor (T k).2.2.1 = some ty
theorem zr_put (hk : zK p s m args meth c g cc own nL) (hH : zHd g hp H) (hz : H.size = nx) (hS : va_S (zAd g) s.heap H locs) {ci k idx : Nat} {fs : List Value} {v : Value} {ty : FieldType} (he : hp a = some (.inr (ci, fs))) (hl : k < fs.length) (hA : zB g ≤ a) (hf : zFp own idx ci k ty) (hn : narrow ty v = v) (hfit : fits ty v = true) (hdg : decode cc pc = .ok (.putfield idx, 3))
    (kk : ∀ (H1 : Heap) (locs1 : List Loc), zHd g (va_up hp a (some (.inr (ci, fs.set k v)))) H1 → H1.size = nx → va_S (zAd g) s.heap H1 locs1 → W p l e R s m args below meth c H1 locs1 kc ks Q (F0 m (pc + 3) ls rest)) : W p l e R s m args below meth c H locs kc ks Q (F0 m pc ls (v :: .ref a :: rest)) := by
  obtain ⟨C, T, N, hc, hkN, h3, hfin, hd⟩ := hf
  obtain ⟨⟨hexec, hb, hml, hown, hts⟩, hK, -⟩ := hk
  have hin := zcl_ok ci _ hc
  obtain ⟨ty0, hty, hnm⟩ := zcl_ty ci _ hc
  have hap := zva_apart hts hin ty0 hty hnm hK hc
  obtain ⟨r, h1, cell, q1, q2, q3, q4⟩ := hH a _ he
  have hr : r = (C, T, N) := Option.some.inj (h1.symm.trans hc)
  subst hr
  obtain ⟨hSl, hfc, kC, hkC, hkind⟩ := hK.1 ci _ hc
  obtain ⟨cf, kf, fi, f, hi, hsl⟩ := hSl k hkN
  have hlay := hts _ (hin _ (u_in_lay hkN))
  unfold u_lay at hlay
  rw [if_neg (by rw [hfin]; decide)] at hlay
  have hst := (u_facts hfc hkC (u_lays hts hin hkN) hi).1
  have h6 := u_store hfc hkC hkind hlay hi hd hn hfit
  refine W.putK hexec hb (f := f) ⟨hown, hts _ h3, ⟨_, _, _, hi⟩, hst⟩ (by rw [q2]; exact h6) q1 q3 (by rw [hsl]; exact k2_hasslot (q4 k hkN)) rfl rfl hdg fun H' e1 e2 e3 => ?_
  rw [hsl] at e1 ⊢
  exact kk H' _ (hH.set ⟨_, hc, t_OB.to (V := updV (vp_V fs) k v) ⟨_, e1, q2, q3, t_set q4 hap hkN v⟩ (fun j _ => vp_updV_set hl v j)⟩ e3) (e2.trans hz) (hS.put e2 e3 hA)
def zFf (own : String) (idx ci k : Nat) (ty : FieldType) : Prop := ∃ (C : String) (T : u_T) (N : Nat), zcl[ci]? = some (C, T, N) ∧ k < N ∧ Cond.fieldLink own idx (T k).1 (T k).2.1 (T k).2.2.1 ∈ lw_all ∧ (T k).2.2.2 = true ∧ (T k).1 = own ∧ parseFieldDescriptor (T k).2.2.1 = some ty
theorem zr_putF (hk : zK p s m args meth c g cc own nL) (hin2 : meth.name = "<init>") (hH : zHd g hp H) (hz : H.size = nx) (hS : va_S (zAd g) s.heap H locs) {ci k idx : Nat} {fs : List Value} {v : Value} {ty : FieldType} (he : hp a = some (.inr (ci, fs))) (hl : k < fs.length) (hA : zB g ≤ a) (hf : zFf own idx ci k ty) (hn : narrow ty v = v) (hfit : fits ty v = true) (hdg : decode cc pc = .ok (.putfield idx, 3))
    (kk : ∀ (H1 : Heap) (locs1 : List Loc), zHd g (va_up hp a (some (.inr (ci, fs.set k v)))) H1 → H1.size = nx → va_S (zAd g) s.heap H1 locs1 → W p l e R s m args below meth c H1 locs1 kc ks Q (F0 m (pc + 3) ls rest)) : W p l e R s m args below meth c H locs kc ks Q (F0 m pc ls (v :: .ref a :: rest)) := by
  obtain ⟨C, T, N, hc, hkN, h3, hfin, hdecl, hd⟩ := hf
  obtain ⟨⟨hexec, hb, hml, hown, hts⟩, hK, -⟩ := hk
  have hin := zcl_ok ci _ hc
  obtain ⟨ty0, hty, hnm⟩ := zcl_ty ci _ hc
  have hap := zva_apart hts hin ty0 hty hnm hK hc
  obtain ⟨r, h1, cell, q1, q2, q3, q4⟩ := hH a _ he
  have hr : r = (C, T, N) := Option.some.inj (h1.symm.trans hc)
  subst hr
  obtain ⟨hSl, hfc, kC, hkC, hkind⟩ := hK.1 ci _ hc
  obtain ⟨cf, kf, fi, f, hi, hsl⟩ := hSl k hkN
  have hlay := hts _ (hin _ (u_in_lay hkN))
  unfold u_lay at hlay
  rw [if_pos hfin] at hlay
  have hst := (u_facts hfc hkC (u_lays hts hin hkN) hi).1
  have hcf : m.cls = cf := by
    obtain ⟨_, _, c', _, _, _, -, -, hf', -, -, -, hown2, -⟩ := Cond.laysFinal_spec hlay
    have e1 : c' = cf := by have := hi.symm.trans hf'; simp at this; exact this.1.symm
    rw [hdecl] at hown2
    rw [← e1]; exact Option.some.inj (hown.symm.trans hown2)
  have h6 := u_fits hfc hkC hkind (Or.inr hlay) hi hd hn hfit
  refine W.putFinK hexec hb hown (hts _ h3) hi hst hcf hin2 (by rw [q2]; exact h6) q1 q3 (by rw [hsl]; exact k2_hasslot (q4 k hkN)) rfl rfl hdg fun H' e1 e2 e3 => ?_
  rw [hsl] at e1 ⊢
  exact kk H' _ (hH.set ⟨_, hc, t_OB.to (V := updV (vp_V fs) k v) ⟨_, e1, q2, q3, t_set q4 hap hkN v⟩ (fun j _ => vp_updV_set hl v j)⟩ e3) (e2.trans hz) (hS.put e2 e3 hA)
/-! ends -/
theorem zr_vret (hk : zK p s m args meth c g cc own nL) (hr : meth.sig.returnType = none) (hH : zHd g hp H) (hz : H.size = nx) (hS : va_S (zAd g) s.heap H locs) {K : zHp → Nat → Prop} (hw : K hp nx) {mc ms : Nat} (h1 : kc ≤ mc) (h2 : ks ≤ ms) (hdg : decode cc pc = .ok (.return_, 1)) : W p l e R s m args below meth c H locs kc ks (MQ below (zQv g K) args s mc ms (zAd g)) (F0 m pc ls []) :=
  W.widen h1 h2 (W.vret hk.1.1 hk.1.2.1 hr (fun t ht hW => ⟨⟨(hp, nx), rfl, hw, hk.st hH hz hS ht hW⟩, hS.F ht⟩) hS.2.2 hdg hk.2.2.2.2)
theorem zr_iret (hk : zK p s m args meth c g cc own nL) (hr : meth.sig.returnType = some .int) (hH : zHd g hp H) (hz : H.size = nx) (hS : va_S (zAd g) s.heap H locs) {K : Int32 → zHp → Nat → Prop} {v : Int32} (hw : K v hp nx) {mc ms : Nat} (h1 : kc ≤ mc) (h2 : ks ≤ ms) (hdg : decode cc pc = .ok (.ireturn, 1)) : W p l e R s m args below meth c H locs kc ks (MQ below (zQi g K) args s mc ms (zAd g)) (F0 m pc ls [.int v]) :=
  W.widen h1 h2 (W.iret hk.1.1 hk.1.2.1 hr (fun t ht hW => ⟨⟨v, (hp, nx), rfl, hw, hk.st hH hz hS ht hW⟩, hS.F ht⟩) hS.2.2 hdg hk.2.2.2.2)
theorem z_nb {v : Int32} (h : v = 0 ∨ v = 1) : narrow .boolean (.int v) = .int v := by rcases h with h | h <;> (subst h; rfl)
theorem z_fb {v : Int32} (h : v = 0 ∨ v = 1) : fits .boolean (.int v) = true := by rcases h with h | h <;> (subst h; rfl)
theorem zr_zret (hk : zK p s m args meth c g cc own nL) (hr : meth.sig.returnType = some .boolean) (hH : zHd g hp H) (hz : H.size = nx) (hS : va_S (zAd g) s.heap H locs) {K : Int32 → zHp → Nat → Prop} {v : Int32} (hv : v = 0 ∨ v = 1) (hw : K v hp nx) {mc ms : Nat} (h1 : kc ≤ mc) (h2 : ks ≤ ms) (hdg : decode cc pc = .ok (.ireturn, 1)) : W p l e R s m args below meth c H locs kc ks (MQ below (zQi g K) args s mc ms (zAd g)) (F0 m pc ls [.int v]) :=
  W.widen h1 h2 (W.zret hk.1.1 hk.1.2.1 hr (z_nb hv) (fun t ht hW => ⟨⟨v, (hp, nx), rfl, hw, hk.st hH hz hS ht hW⟩, hS.F ht⟩) hS.2.2 hdg hk.2.2.2.2)
theorem zr_lret (hk : zK p s m args meth c g cc own nL) (hr : meth.sig.returnType = some .long) (hH : zHd g hp H) (hz : H.size = nx) (hS : va_S (zAd g) s.heap H locs) {K : Int64 → zHp → Nat → Prop} {v : Int64} (hw : K v hp nx) {mc ms : Nat} (h1 : kc ≤ mc) (h2 : ks ≤ ms) (hdg : decode cc pc = .ok (.lreturn, 1)) : W p l e R s m args below meth c H locs kc ks (MQ below (zQl g K) args s mc ms (zAd g)) (F0 m pc ls [.long v]) :=
  W.widen h1 h2 (W.lret hk.1.1 hk.1.2.1 hr (fun t ht hW => ⟨⟨v, (hp, nx), rfl, hw, hk.st hH hz hS ht hW⟩, hS.F ht⟩) hS.2.2 hdg hk.2.2.2.2)
theorem zr_dret (hk : zK p s m args meth c g cc own nL) (hr : meth.sig.returnType = some .double) (hH : zHd g hp H) (hz : H.size = nx) (hS : va_S (zAd g) s.heap H locs) {K : UInt64 → zHp → Nat → Prop} {v : UInt64} (hw : K v hp nx) {mc ms : Nat} (h1 : kc ≤ mc) (h2 : ks ≤ ms) (hdg : decode cc pc = .ok (.dreturn, 1)) : W p l e R s m args below meth c H locs kc ks (MQ below (zQd g K) args s mc ms (zAd g)) (F0 m pc ls [.double v]) :=
  W.widen h1 h2 (W.dret hk.1.1 hk.1.2.1 hr (fun t ht hW => ⟨⟨v, (hp, nx), rfl, hw, hk.st hH hz hS ht hW⟩, hS.F ht⟩) hS.2.2 hdg hk.2.2.2.2)
theorem z_rfv (r : Option Nat) : va_rf r = .null ∨ ∃ a, va_rf r = .ref a := by
  cases r with
  | none => exact Or.inl rfl
  | some a => exact Or.inr ⟨a, rfl⟩
theorem zr_aret (hk : zK p s m args meth c g cc own nL) {rt : FieldType} (hr : meth.sig.returnType = some rt) (hrt : (∃ n, rt = .object n) ∨ ∃ t, rt = .array t) (hH : zHd g hp H) (hz : H.size = nx) (hS : va_S (zAd g) s.heap H locs) {K : Option Nat → zHp → Nat → Prop} {r : Option Nat} (hw : K r hp nx) {mc ms : Nat} (h1 : kc ≤ mc) (h2 : ks ≤ ms) (hdg : decode cc pc = .ok (.areturn, 1)) : W p l e R s m args below meth c H locs kc ks (MQ below (zQq g K) args s mc ms (zAd g)) (F0 m pc ls [va_rf r]) :=
  W.widen h1 h2 (W.aret hk.1.1 hk.1.2.1 hr hrt (z_rfv r) (fun t ht hW => ⟨⟨r, (hp, nx), rfl, hw, hk.st hH hz hS ht hW⟩, hS.F ht⟩) hS.2.2 hdg hk.2.2.2.2)
/-! references of either kind -/
theorem zr_aload_n {k : Fin 4} {i : Nat} {r : Option Nat} (hexec : p.tables.exec = Jvm.exec) (hb : c.code = cc) (hdg : decode cc pc = .ok (.aload_n k, 1)) (hi : (k : Nat) = i) (hl : ls[i]? = some (.val (va_rf r))) (kk : W p l e R s m args below meth c H locs kc ks Q (F0 m (pc + 1) ls (va_rf r :: rest))) : W p l e R s m args below meth c H locs kc ks Q (F0 m pc ls rest) := by
  cases r with
  | none => exact lv_aload_nN hexec hb hdg hi hl kk
  | some a => exact lv_aload_n hexec hb hdg hi hl kk
theorem zr_aload {i : Nat} {r : Option Nat} (hexec : p.tables.exec = Jvm.exec) (hb : c.code = cc) (hdg : decode cc pc = .ok (.aload i, 2)) (hl : ls[i]? = some (.val (va_rf r))) (kk : W p l e R s m args below meth c H locs kc ks Q (F0 m (pc + 2) ls (va_rf r :: rest))) : W p l e R s m args below meth c H locs kc ks Q (F0 m pc ls rest) := by
  cases r with
  | none => exact lv_aloadN hexec hb hdg hl kk
  | some a => exact lv_aload hexec hb hdg hl kk
theorem zr_astore_n {k : Fin 4} {i nL : Nat} {r : Option Nat} {lv lv' : List (Nat × Value)} (hexec : p.tables.exec = Jvm.exec) (hb : c.code = cc) (hdg : decode cc pc = .ok (.astore_n k, 1)) (hi : (k : Nat) = i) (h : lv_has ls nL lv) (hn : i < nL) (hl : (i, va_rf r) :: lv.filter (fun q => !(q.1 == i) && !(q.1 + 1 == i && q.2.category == 2)) = lv') (kk : ∀ ls' : Array Slot, lv_has ls' nL lv' → W p l e R s m args below meth c H locs kc ks Q (F0 m (pc + 1) ls' rest)) : W p l e R s m args below meth c H locs kc ks Q (F0 m pc ls (va_rf r :: rest)) := by
  cases r with
  | none => exact lv_astore_nN hexec hb hdg hi h hn hl kk
  | some a => exact lv_astore_n hexec hb hdg hi h hn hl kk
theorem zr_astore {i nL : Nat} {r : Option Nat} {lv lv' : List (Nat × Value)} (hexec : p.tables.exec = Jvm.exec) (hb : c.code = cc) (hdg : decode cc pc = .ok (.astore i, 2)) (h : lv_has ls nL lv) (hn : i < nL) (hl : (i, va_rf r) :: lv.filter (fun q => !(q.1 == i) && !(q.1 + 1 == i && q.2.category == 2)) = lv') (kk : ∀ ls' : Array Slot, lv_has ls' nL lv' → W p l e R s m args below meth c H locs kc ks Q (F0 m (pc + 2) ls' rest)) : W p l e R s m args below meth c H locs kc ks Q (F0 m pc ls (va_rf r :: rest)) := by
  cases r with
  | none => exact lv_astoreN hexec hb hdg h hn hl kk
  | some a => exact lv_astore hexec hb hdg h hn hl kk
theorem zr_ifnull {r : Option Nat} {off : Int} {tgt : Nat} (hexec : p.tables.exec = Jvm.exec) (hb : c.code = cc) (hdg : decode cc pc = .ok (.ifnull off, 3)) (ht : (pc : Int) + off = (tgt : Int)) (kt : r = none → W p l e R s m args below meth c H locs kc ks Q (F0 m tgt ls rest)) (kf : ¬ r = none → W p l e R s m args below meth c H locs kc ks Q (F0 m (pc + 3) ls rest)) : W p l e R s m args below meth c H locs kc ks Q (F0 m pc ls (va_rf r :: rest)) := by
  cases r with
  | none => exact lv_ifnullN hexec hb hdg ht (kt rfl)
  | some a => exact lv_ifnull hexec hb hdg (kf (fun h => by cases h))
theorem zr_ifnonnull {r : Option Nat} {off : Int} {tgt : Nat} (hexec : p.tables.exec = Jvm.exec) (hb : c.code = cc) (hdg : decode cc pc = .ok (.ifnonnull off, 3)) (ht : (pc : Int) + off = (tgt : Int)) (kt : ¬ r = none → W p l e R s m args below meth c H locs kc ks Q (F0 m tgt ls rest)) (kf : r = none → W p l e R s m args below meth c H locs kc ks Q (F0 m (pc + 3) ls rest)) : W p l e R s m args below meth c H locs kc ks Q (F0 m pc ls (va_rf r :: rest)) := by
  cases r with
  | none => exact lv_ifnonnullN hexec hb hdg (kf rfl)
  | some a => exact lv_ifnonnull hexec hb hdg ht (kt (fun h => by cases h))
end ZR
