set_option maxRecDepth 100000
/-! the words of the printed predicates (wp_..), how each is opened, and the row that goes with it -/
def zo (hp : zHp) (r : Option Nat) (S : List Nat) (K : Nat → Nat → List Value → Prop) : Prop := match r with
  | none => False
  | some a => match hp a with
    | some (.inr (ci, fs)) => ci ∈ S ∧ K a ci fs
    | _ => False
theorem zo_e {hp : zHp} {r : Option Nat} {S : List Nat} {K : Nat → Nat → List Value → Prop} (h : zo hp r S K) : ∃ (a ci : Nat) (fs : List Value), r = some a ∧ hp a = some (.inr (ci, fs)) ∧ ci ∈ S ∧ K a ci fs := by
  unfold zo at h
  split at h
  · exact h.elim
  · split at h
    · next a _ ci fs he => exact ⟨a, ci, fs, rfl, he, h.1, h.2⟩
    · exact h.elim
theorem zo_i {hp : zHp} {r : Option Nat} {S : List Nat} {K : Nat → Nat → List Value → Prop} {a ci : Nat} {fs : List Value} (hr : r = some a) (he : hp a = some (.inr (ci, fs))) (hS : ci ∈ S) (h : K a ci fs) : zo hp r S K := by
  subst hr
  simp only [zo, he]
  exact ⟨hS, h⟩
def zvI (o : Option Value) (K : Int32 → Prop) : Prop := match o with | some (.int x) => K x | _ => False
def zvJ (o : Option Value) (K : Int64 → Prop) : Prop := match o with | some (.long x) => K x | _ => False
def zvD (o : Option Value) (K : UInt64 → Prop) : Prop := match o with | some (.double x) => K x | _ => False
def zvR (o : Option Value) (K : Option Nat → Prop) : Prop := match o with | some .null => K none | some (.ref a) => K (some a) | _ => False
theorem zvI_e {o : Option Value} {K : Int32 → Prop} (h : zvI o K) : ∃ x, o = some (.int x) ∧ K x := by
  unfold zvI at h; split at h
  · next x => exact ⟨x, rfl, h⟩
  · exact h.elim
theorem zvJ_e {o : Option Value} {K : Int64 → Prop} (h : zvJ o K) : ∃ x, o = some (.long x) ∧ K x := by
  unfold zvJ at h; split at h
  · next x => exact ⟨x, rfl, h⟩
  · exact h.elim
theorem zvD_e {o : Option Value} {K : UInt64 → Prop} (h : zvD o K) : ∃ x, o = some (.double x) ∧ K x := by
  unfold zvD at h; split at h
  · next x => exact ⟨x, rfl, h⟩
  · exact h.elim
theorem zvR_e {o : Option Value} {K : Option Nat → Prop} (h : zvR o K) : ∃ x, o = some (va_rf x) ∧ K x := by
  unfold zvR at h; split at h
  · exact ⟨none, rfl, h⟩
  · next a => exact ⟨some a, rfl, h⟩
  · exact h.elim
def zgI (hp : zHp) (r : Option Nat) (S : List Nat) (k : Nat) (K : Int32 → Prop) : Prop := zo hp r S fun _ _ fs => zvI fs[k]? K
def zgJ (hp : zHp) (r : Option Nat) (S : List Nat) (k : Nat) (K : Int64 → Prop) : Prop := zo hp r S fun _ _ fs => zvJ fs[k]? K
def zgD (hp : zHp) (r : Option Nat) (S : List Nat) (k : Nat) (K : UInt64 → Prop) : Prop := zo hp r S fun _ _ fs => zvD fs[k]? K
def zgR (hp : zHp) (r : Option Nat) (S : List Nat) (k : Nat) (K : Option Nat → Prop) : Prop := zo hp r S fun _ _ fs => zvR fs[k]? K
theorem zgI_e {hp : zHp} {r : Option Nat} {S : List Nat} {k : Nat} {K : Int32 → Prop} (h : zgI hp r S k K) : ∃ (a ci : Nat) (fs : List Value) (x : Int32), r = some a ∧ hp a = some (.inr (ci, fs)) ∧ ci ∈ S ∧ fs[k]? = some (.int x) ∧ K x := by
  obtain ⟨a, ci, fs, h1, h2, h3, h4⟩ := zo_e h
  obtain ⟨x, h5, h6⟩ := zvI_e h4
  exact ⟨a, ci, fs, x, h1, h2, h3, h5, h6⟩
theorem zgJ_e {hp : zHp} {r : Option Nat} {S : List Nat} {k : Nat} {K : Int64 → Prop} (h : zgJ hp r S k K) : ∃ (a ci : Nat) (fs : List Value) (x : Int64), r = some a ∧ hp a = some (.inr (ci, fs)) ∧ ci ∈ S ∧ fs[k]? = some (.long x) ∧ K x := by
  obtain ⟨a, ci, fs, h1, h2, h3, h4⟩ := zo_e h
  obtain ⟨x, h5, h6⟩ := zvJ_e h4
  exact ⟨a, ci, fs, x, h1, h2, h3, h5, h6⟩
theorem zgD_e {hp : zHp} {r : Option Nat} {S : List Nat} {k : Nat} {K : UInt64 → Prop} (h : zgD hp r S k K) : ∃ (a ci : Nat) (fs : List Value) (x : UInt64), r = some a ∧ hp a = some (.inr (ci, fs)) ∧ ci ∈ S ∧ fs[k]? = some (.double x) ∧ K x := by
  obtain ⟨a, ci, fs, h1, h2, h3, h4⟩ := zo_e h
  obtain ⟨x, h5, h6⟩ := zvD_e h4
  exact ⟨a, ci, fs, x, h1, h2, h3, h5, h6⟩
theorem zgR_e {hp : zHp} {r : Option Nat} {S : List Nat} {k : Nat} {K : Option Nat → Prop} (h : zgR hp r S k K) : ∃ (a ci : Nat) (fs : List Value) (x : Option Nat), r = some a ∧ hp a = some (.inr (ci, fs)) ∧ ci ∈ S ∧ fs[k]? = some (va_rf x) ∧ K x := by
  obtain ⟨a, ci, fs, h1, h2, h3, h4⟩ := zo_e h
  obtain ⟨x, h5, h6⟩ := zvR_e h4
  exact ⟨a, ci, fs, x, h1, h2, h3, h5, h6⟩
/-- a field is put -/
def zpt (g : zG) (hp : zHp) (r : Option Nat) (S : List Nat) (k : Nat) (v : Value) (K : zHp → Prop) : Prop := zo hp r S fun a ci fs => zB g ≤ a ∧ k < fs.length ∧ K (va_up hp a (some (.inr (ci, fs.set k v))))
theorem zpt_e {g : zG} {hp : zHp} {r : Option Nat} {S : List Nat} {k : Nat} {v : Value} {K : zHp → Prop} (h : zpt g hp r S k v K) : ∃ (a ci : Nat) (fs : List Value) (hp' : zHp), r = some a ∧ hp a = some (.inr (ci, fs)) ∧ ci ∈ S ∧ zB g ≤ a ∧ k < fs.length ∧ hp' = va_up hp a (some (.inr (ci, fs.set k v))) ∧ K hp' := by
  obtain ⟨a, ci, fs, h1, h2, h3, h4, h5, h6⟩ := zo_e h
  exact ⟨a, ci, fs, _, h1, h2, h3, h4, h5, rfl, h6⟩
def zaI (cA : ClassId) (hp : zHp) (r : Option Nat) (K : Nat → Nat → (Nat → Int32) → Prop) : Prop := match r with
  | none => False
  | some a => match hp a with
    | some (.inl (c, n, .inl f)) => c = cA ∧ K a n f
    | _ => False
def zaJ (cA : ClassId) (hp : zHp) (r : Option Nat) (K : Nat → Nat → (Nat → Int64) → Prop) : Prop := match r with
  | none => False
  | some a => match hp a with
    | some (.inl (c, n, .inr (.inl f))) => c = cA ∧ K a n f
    | _ => False
def zaF (cA : ClassId) (hp : zHp) (r : Option Nat) (K : Nat → Nat → (Nat → UInt32) → Prop) : Prop := match r with
  | none => False
  | some a => match hp a with
    | some (.inl (c, n, .inr (.inr (.inl f)))) => c = cA ∧ K a n f
    | _ => False
def zaD (cA : ClassId) (hp : zHp) (r : Option Nat) (K : Nat → Nat → (Nat → UInt64) → Prop) : Prop := match r with
  | none => False
  | some a => match hp a with
    | some (.inl (c, n, .inr (.inr (.inr (.inl f))))) => c = cA ∧ K a n f
    | _ => False
def zaR (cA : ClassId) (hp : zHp) (r : Option Nat) (K : Nat → Nat → (Nat → Option Nat) → Prop) : Prop := match r with
  | none => False
  | some a => match hp a with
    | some (.inl (c, n, .inr (.inr (.inr (.inr f))))) => c = cA ∧ K a n f
    | _ => False
theorem zaI_e {cA : ClassId} {hp : zHp} {r : Option Nat} {K : Nat → Nat → (Nat → Int32) → Prop} (h : zaI cA hp r K) : ∃ (a n : Nat) (f : Nat → Int32), r = some a ∧ hp a = some (.inl (cA, n, .inl f)) ∧ K a n f := by
  unfold zaI at h
  split at h
  · exact h.elim
  · split at h
    · next a _ c n f he => obtain ⟨rfl, h⟩ := h; exact ⟨a, n, f, rfl, he, h⟩
    · exact h.elim
theorem zaJ_e {cA : ClassId} {hp : zHp} {r : Option Nat} {K : Nat → Nat → (Nat → Int64) → Prop} (h : zaJ cA hp r K) : ∃ (a n : Nat) (f : Nat → Int64), r = some a ∧ hp a = some (.inl (cA, n, .inr (.inl f))) ∧ K a n f := by
  unfold zaJ at h
  split at h
  · exact h.elim
  · split at h
    · next a _ c n f he => obtain ⟨rfl, h⟩ := h; exact ⟨a, n, f, rfl, he, h⟩
    · exact h.elim
theorem zaF_e {cA : ClassId} {hp : zHp} {r : Option Nat} {K : Nat → Nat → (Nat → UInt32) → Prop} (h : zaF cA hp r K) : ∃ (a n : Nat) (f : Nat → UInt32), r = some a ∧ hp a = some (.inl (cA, n, .inr (.inr (.inl f)))) ∧ K a n f := by
  unfold zaF at h
  split at h
  · exact h.elim
  · split at h
    · next a _ c n f he => obtain ⟨rfl, h⟩ := h; exact ⟨a, n, f, rfl, he, h⟩
    · exact h.elim
theorem zaD_e {cA : ClassId} {hp : zHp} {r : Option Nat} {K : Nat → Nat → (Nat → UInt64) → Prop} (h : zaD cA hp r K) : ∃ (a n : Nat) (f : Nat → UInt64), r = some a ∧ hp a = some (.inl (cA, n, .inr (.inr (.inr (.inl f))))) ∧ K a n f := by
  unfold zaD at h
  split at h
  · exact h.elim
  · split at h
    · next a _ c n f he => obtain ⟨rfl, h⟩ := h; exact ⟨a, n, f, rfl, he, h⟩
    · exact h.elim
theorem zaR_e {cA : ClassId} {hp : zHp} {r : Option Nat} {K : Nat → Nat → (Nat → Option Nat) → Prop} (h : zaR cA hp r K) : ∃ (a n : Nat) (f : Nat → Option Nat), r = some a ∧ hp a = some (.inl (cA, n, .inr (.inr (.inr (.inr f))))) ∧ K a n f := by
  unfold zaR at h
  split at h
  · exact h.elim
  · split at h
    · next a _ c n f he => obtain ⟨rfl, h⟩ := h; exact ⟨a, n, f, rfl, he, h⟩
    · exact h.elim
/-- any array: its length -/
def zln (cA : ClassId) (hp : zHp) (r : Option Nat) (K : Int32 → Prop) : Prop := match r with
  | none => False
  | some a => match hp a with
    | some (.inl (c, x)) => c = cA ∧ K (Int32.ofNat x.1)
    | _ => False
theorem zln_e {cA : ClassId} {hp : zHp} {r : Option Nat} {K : Int32 → Prop} (h : zln cA hp r K) : ∃ (a : Nat) (x : vp_A), r = some a ∧ hp a = some (.inl (cA, x)) ∧ K (Int32.ofNat x.1) := by
  unfold zln at h
  split at h
  · exact h.elim
  · split at h
    · next a _ c x he => obtain ⟨rfl, h⟩ := h; exact ⟨a, x, rfl, he, h⟩
    · exact h.elim
/-- a new object -/
def znw (g : zG) (mc ms : Nat) (hp : zHp) (nx kc ks ci : Nat) (K : zHp → Prop) : Prop := kc + 1 ≤ mc ∧ ks + zNn ci ≤ ms ∧ ((∀ (a : Nat) (e : va_E), hp a = some e → a < nx) → zB g ≤ nx → K (va_up hp nx (some (.inr (ci, zNf ci)))))
/-- a new array of a plain kind, its contents x -/
def zna (g : zG) (mc ms : Nat) (hp : zHp) (nx kc ks t : Nat) (n : Int32) (x : (Nat → Int32) ⊕ (Nat → Int64) ⊕ (Nat → UInt32) ⊕ (Nat → UInt64) ⊕ (Nat → Option Nat)) (K : zHp → Prop) : Prop := ¬ n < 0 ∧ n.toNatClampNeg ≤ 65536 ∧ kc + 1 ≤ mc ∧ ks + n.toNatClampNeg ≤ ms ∧ ((∀ (a : Nat) (e : va_E), hp a = some e → a < nx) → zB g ≤ nx → K (va_up hp nx (some (.inl (g.2.1 t, n.toNatClampNeg, x)))))
theorem z_cat (r : Option Nat) : (va_rf r).category = 1 := by cases r <;> rfl
section ZW
variable {p : Program} {l : Launch} {e : Env} {R : Room} {s : State} {m : MethodId} {args : Array Value} {below : List Frame} {meth : Method} {c : Code} {H : Heap} {locs : List Loc} {kc ks : Nat} {Q : State → Prop}
variable {cc : ByteArray} {pc : Nat} {ls : Array Slot} {rest : List Value} {g : zG} {own : String} {nL : Nat} {hp hp' : zHp} {nx : Nat} {a : Nat} {r : Option Nat}
theorem zw_get (hk : zK p s m args meth c g cc own nL) (hH : zHd g hp H) {ci k idx : Nat} {fs : List Value} {v : Value} (er : r = some a) (he : hp a = some (.inr (ci, fs))) (hv : fs[k]? = some v) (hf : zFk own idx ci k) (hdg : decode cc pc = .ok (.getfield idx, 3))
    (kk : W p l e R s m args below meth c H locs kc ks Q (F0 m (pc + 3) ls (v :: rest))) : W p l e R s m args below meth c H locs kc ks Q (F0 m pc ls (va_rf r :: rest)) := by
  subst er
  exact zr_get hk hH he hv hf hdg kk
theorem zw_put (hk : zK p s m args meth c g cc own nL) (hH : zHd g hp H) (hz : H.size = nx) (hS : va_S (zAd g) s.heap H locs) {ci k idx : Nat} {fs : List Value} {v : Value} {ty : FieldType} (er : r = some a) (he : hp a = some (.inr (ci, fs))) (hA : zB g ≤ a) (hl : k < fs.length) (eh : hp' = va_up hp a (some (.inr (ci, fs.set k v)))) (hf : zFp own idx ci k ty) (hn : narrow ty v = v) (hfit : fits ty v = true) (hdg : decode cc pc = .ok (.putfield idx, 3))
    (kk : ∀ (H1 : Heap) (locs1 : List Loc), zHd g hp' H1 → H1.size = nx → va_S (zAd g) s.heap H1 locs1 → W p l e R s m args below meth c H1 locs1 kc ks Q (F0 m (pc + 3) ls rest)) : W p l e R s m args below meth c H locs kc ks Q (F0 m pc ls (v :: va_rf r :: rest)) := by
  subst er
  subst eh
  exact zr_put hk hH hz hS he hl hA hf hn hfit hdg kk
theorem zw_putF (hk : zK p s m args meth c g cc own nL) (hin2 : meth.name = "<init>") (hH : zHd g hp H) (hz : H.size = nx) (hS : va_S (zAd g) s.heap H locs) {ci k idx : Nat} {fs : List Value} {v : Value} {ty : FieldType} (er : r = some a) (he : hp a = some (.inr (ci, fs))) (hA : zB g ≤ a) (hl : k < fs.length) (eh : hp' = va_up hp a (some (.inr (ci, fs.set k v)))) (hf : zFf own idx ci k ty) (hn : narrow ty v = v) (hfit : fits ty v = true) (hdg : decode cc pc = .ok (.putfield idx, 3))
    (kk : ∀ (H1 : Heap) (locs1 : List Loc), zHd g hp' H1 → H1.size = nx → va_S (zAd g) s.heap H1 locs1 → W p l e R s m args below meth c H1 locs1 kc ks Q (F0 m (pc + 3) ls rest)) : W p l e R s m args below meth c H locs kc ks Q (F0 m pc ls (v :: va_rf r :: rest)) := by
  subst er
  subst eh
  exact zr_putF hk hin2 hH hz hS he hl hA hf hn hfit hdg kk
theorem z_fitR (C : String) (r : Option Nat) : fits (.object C) (va_rf r) = true := by cases r <;> rfl
theorem z_narR (C : String) (r : Option Nat) : narrow (.object C) (va_rf r) = va_rf r := by cases r <;> rfl
theorem z_fitA (t : FieldType) (r : Option Nat) : fits (.array t) (va_rf r) = true := by cases r <;> rfl
theorem z_narA (t : FieldType) (r : Option Nat) : narrow (.array t) (va_rf r) = va_rf r := by cases r <;> rfl
end ZW
