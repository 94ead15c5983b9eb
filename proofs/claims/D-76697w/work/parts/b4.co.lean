set_option maxRecDepth 100000
/-! small constructors over any heap: printed by mkco.py -/
section CO
variable {l : Launch} {g : zG} {d : Nat} {hp : zHp} {nx : Nat}
theorem zNn_2 : zNn 2 = 3 := by decide +kernel
theorem zNf_2 : zNf 2 = [.int 0, va_rf none, .double 0] := by decide +kernel
theorem zNn_6 : zNn 6 = 3 := by decide +kernel
theorem zNf_6 : zNf 6 = [.int 0, va_rf none, .double 0] := by decide +kernel
theorem zNn_7 : zNn 7 = 3 := by decide +kernel
theorem zNf_7 : zNf 7 = [.int 0, va_rf none, .double 0] := by decide +kernel
theorem zNn_8 : zNn 8 = 3 := by decide +kernel
theorem zNf_8 : zNf 8 = [.int 0, va_rf none, .double 0] := by decide +kernel
theorem zNn_9 : zNn 9 = 3 := by decide +kernel
theorem zNf_9 : zNf 9 = [.int 0, va_rf none, .double 0] := by decide +kernel
theorem zNn_10 : zNn 10 = 3 := by decide +kernel
theorem zNf_10 : zNf 10 = [.int 0, va_rf none, .double 0] := by decide +kernel
theorem zNn_14 : zNn 14 = 5 := by decide +kernel
theorem zNf_14 : zNf 14 = [va_rf none, va_rf none, va_rf none, va_rf none, va_rf none] := by decide +kernel
theorem zNn_16 : zNn 16 = 5 := by decide +kernel
theorem zNf_16 : zNf 16 = [va_rf none, va_rf none, va_rf none, va_rf none, va_rf none] := by decide +kernel
theorem zNn_17 : zNn 17 = 6 := by decide +kernel
theorem zNf_17 : zNf 17 = [va_rf none, va_rf none, va_rf none, va_rf none, va_rf none, va_rf none] := by decide +kernel
theorem zNn_18 : zNn 18 = 3 := by decide +kernel
theorem zNf_18 : zNf 18 = [va_rf none, .int 0, va_rf none] := by decide +kernel
theorem zNn_19 : zNn 19 = 4 := by decide +kernel
theorem zNf_19 : zNf 19 = [va_rf none, .int 0, va_rf none, va_rf none] := by decide +kernel
theorem zNn_20 : zNn 20 = 5 := by decide +kernel
theorem zNf_20 : zNf 20 = [va_rf none, .int 0, va_rf none, va_rf none, va_rf none] := by decide +kernel
theorem zNn_21 : zNn 21 = 6 := by decide +kernel
theorem zNf_21 : zNf 21 = [va_rf none, .int 0, va_rf none, va_rf none, va_rf none, va_rf none] := by decide +kernel
theorem zNn_22 : zNn 22 = 4 := by decide +kernel
theorem zNf_22 : zNf 22 = [va_rf none, .int 0, va_rf none, va_rf none] := by decide +kernel
theorem zNn_23 : zNn 23 = 3 := by decide +kernel
theorem zNf_23 : zNf 23 = [va_rf none, .int 0, va_rf none] := by decide +kernel
theorem zNn_24 : zNn 24 = 3 := by decide +kernel
theorem zNf_24 : zNf 24 = [va_rf none, .double 0, va_rf none] := by decide +kernel
theorem zNn_25 : zNn 25 = 3 := by decide +kernel
theorem zNf_25 : zNf 25 = [va_rf none, va_rf none, va_rf none] := by decide +kernel
theorem zNn_26 : zNn 26 = 5 := by decide +kernel
theorem zNf_26 : zNf 26 = [va_rf none, va_rf none, va_rf none, va_rf none, va_rf none] := by decide +kernel
theorem zNn_27 : zNn 27 = 6 := by decide +kernel
theorem zNf_27 : zNf 27 = [va_rf none, va_rf none, va_rf none, va_rf none, va_rf none, va_rf none] := by decide +kernel
theorem zNn_28 : zNn 28 = 3 := by decide +kernel
theorem zNf_28 : zNf 28 = [.int 0, va_rf none, va_rf none] := by decide +kernel
theorem zNn_29 : zNn 29 = 6 := by decide +kernel
theorem zNf_29 : zNf 29 = [va_rf none, va_rf none, va_rf none, va_rf none, .int 0, va_rf none] := by decide +kernel
theorem zNn_30 : zNn 30 = 3 := by decide +kernel
theorem zNf_30 : zNf 30 = [va_rf none, va_rf none, va_rf none] := by decide +kernel
theorem x13_18 {q : Nat} {u0 u1 u2 : Value} {r1 : Option Nat} (h : hp q = some (.inr (18, [u0, u1, u2]))) (hz : zB g ≤ q) (hd : 1 ≤ d) {K : zHp → Nat → Prop} (hK : K (va_up hp q (some (.inr (18, [va_rf r1, u1, u2])))) nx) : zMt l g yX13_init cX13_init 2 none d 0 0 [.ref q, va_rf r1] hp nx (zQv g K) := by
  obtain ⟨d, rfl⟩ := Nat.exists_eq_add_of_le' (show 1 ≤ d by omega)
  apply met_X13_init
  unfold wp_X13_init zptk zo
  simp only [h]
  exact ⟨by decide, hz, by simp, hK⟩
theorem x18_18 {q : Nat} {u0 u1 u2 : Value} {r1 : Option Nat} {x2 : Int32} (h : hp q = some (.inr (18, [u0, u1, u2]))) (hz : zB g ≤ q) (hd : 2 ≤ d) {K : zHp → Nat → Prop} (hK : K (va_up hp q (some (.inr (18, [va_rf r1, .int x2, va_rf r1])))) nx) : zMt l g yX18_init cX18_init 3 none d 0 0 [.ref q, va_rf r1, .int x2] hp nx (zQv g K) := by
  obtain ⟨d, rfl⟩ := Nat.exists_eq_add_of_le' (show 1 ≤ d by omega)
  apply met_X18_init
  unfold wp_X18_init
  rw [hz_p h (by decide) (by simp)]
  refine ⟨hz, ?_⟩
  dsimp only [List.set]
  refine x13_18 (show va_up hp q (some (.inr (18, [u0, u1, va_rf r1]))) q = some (.inr (18, [u0, u1, va_rf r1])) from va_s) hz (by omega) ?_
  rw [cva_uu]
  rw [hz_p (show va_up hp q (some (.inr (18, [va_rf r1, u1, va_rf r1]))) q = some (.inr (18, [va_rf r1, u1, va_rf r1])) from va_s) (by decide) (by simp)]
  refine ⟨hz, ?_⟩
  rw [cva_uu]
  dsimp only [List.set]
  exact hK
theorem x13_19 {q : Nat} {u0 u1 u2 u3 : Value} {r1 : Option Nat} (h : hp q = some (.inr (19, [u0, u1, u2, u3]))) (hz : zB g ≤ q) (hd : 1 ≤ d) {K : zHp → Nat → Prop} (hK : K (va_up hp q (some (.inr (19, [va_rf r1, u1, u2, u3])))) nx) : zMt l g yX13_init cX13_init 2 none d 0 0 [.ref q, va_rf r1] hp nx (zQv g K) := by
  obtain ⟨d, rfl⟩ := Nat.exists_eq_add_of_le' (show 1 ≤ d by omega)
  apply met_X13_init
  unfold wp_X13_init zptk zo
  simp only [h]
  exact ⟨by decide, hz, by simp, hK⟩
theorem x18_19 {q : Nat} {u0 u1 u2 u3 : Value} {r1 : Option Nat} {x2 : Int32} (h : hp q = some (.inr (19, [u0, u1, u2, u3]))) (hz : zB g ≤ q) (hd : 2 ≤ d) {K : zHp → Nat → Prop} (hK : K (va_up hp q (some (.inr (19, [va_rf r1, .int x2, va_rf r1, u3])))) nx) : zMt l g yX18_init cX18_init 3 none d 0 0 [.ref q, va_rf r1, .int x2] hp nx (zQv g K) := by
  obtain ⟨d, rfl⟩ := Nat.exists_eq_add_of_le' (show 1 ≤ d by omega)
  apply met_X18_init
  unfold wp_X18_init
  rw [hz_p h (by decide) (by simp)]
  refine ⟨hz, ?_⟩
  dsimp only [List.set]
  refine x13_19 (show va_up hp q (some (.inr (19, [u0, u1, va_rf r1, u3]))) q = some (.inr (19, [u0, u1, va_rf r1, u3])) from va_s) hz (by omega) ?_
  rw [cva_uu]
  rw [hz_p (show va_up hp q (some (.inr (19, [va_rf r1, u1, va_rf r1, u3]))) q = some (.inr (19, [va_rf r1, u1, va_rf r1, u3])) from va_s) (by decide) (by simp)]
  refine ⟨hz, ?_⟩
  rw [cva_uu]
  dsimp only [List.set]
  exact hK
theorem x19_19 {q : Nat} {u0 u1 u2 u3 : Value} {r1 : Option Nat} {x2 : Int32} (h : hp q = some (.inr (19, [u0, u1, u2, u3]))) (hz : zB g ≤ q) (hd : 3 ≤ d) {K : zHp → Nat → Prop} (hK : K (va_up hp q (some (.inr (19, [va_rf r1, .int x2, va_rf r1, va_rf r1])))) nx) : zMt l g yX19_init cX19_init 3 none d 0 0 [.ref q, va_rf r1, .int x2] hp nx (zQv g K) := by
  obtain ⟨d, rfl⟩ := Nat.exists_eq_add_of_le' (show 1 ≤ d by omega)
  apply met_X19_init
  unfold wp_X19_init
  rw [hz_p h (by decide) (by simp)]
  refine ⟨hz, ?_⟩
  dsimp only [List.set]
  refine x18_19 (show va_up hp q (some (.inr (19, [u0, u1, u2, va_rf r1]))) q = some (.inr (19, [u0, u1, u2, va_rf r1])) from va_s) hz (by omega) ?_
  rw [cva_uu]
  exact hK
theorem x13_20 {q : Nat} {u0 u1 u2 u3 u4 : Value} {r1 : Option Nat} (h : hp q = some (.inr (20, [u0, u1, u2, u3, u4]))) (hz : zB g ≤ q) (hd : 1 ≤ d) {K : zHp → Nat → Prop} (hK : K (va_up hp q (some (.inr (20, [va_rf r1, u1, u2, u3, u4])))) nx) : zMt l g yX13_init cX13_init 2 none d 0 0 [.ref q, va_rf r1] hp nx (zQv g K) := by
  obtain ⟨d, rfl⟩ := Nat.exists_eq_add_of_le' (show 1 ≤ d by omega)
  apply met_X13_init
  unfold wp_X13_init zptk zo
  simp only [h]
  exact ⟨by decide, hz, by simp, hK⟩
theorem x18_20 {q : Nat} {u0 u1 u2 u3 u4 : Value} {r1 : Option Nat} {x2 : Int32} (h : hp q = some (.inr (20, [u0, u1, u2, u3, u4]))) (hz : zB g ≤ q) (hd : 2 ≤ d) {K : zHp → Nat → Prop} (hK : K (va_up hp q (some (.inr (20, [va_rf r1, .int x2, va_rf r1, u3, u4])))) nx) : zMt l g yX18_init cX18_init 3 none d 0 0 [.ref q, va_rf r1, .int x2] hp nx (zQv g K) := by
  obtain ⟨d, rfl⟩ := Nat.exists_eq_add_of_le' (show 1 ≤ d by omega)
  apply met_X18_init
  unfold wp_X18_init
  rw [hz_p h (by decide) (by simp)]
  refine ⟨hz, ?_⟩
  dsimp only [List.set]
  refine x13_20 (show va_up hp q (some (.inr (20, [u0, u1, va_rf r1, u3, u4]))) q = some (.inr (20, [u0, u1, va_rf r1, u3, u4])) from va_s) hz (by omega) ?_
  rw [cva_uu]
  rw [hz_p (show va_up hp q (some (.inr (20, [va_rf r1, u1, va_rf r1, u3, u4]))) q = some (.inr (20, [va_rf r1, u1, va_rf r1, u3, u4])) from va_s) (by decide) (by simp)]
  refine ⟨hz, ?_⟩
  rw [cva_uu]
  dsimp only [List.set]
  exact hK
theorem x19_20 {q : Nat} {u0 u1 u2 u3 u4 : Value} {r1 : Option Nat} {x2 : Int32} (h : hp q = some (.inr (20, [u0, u1, u2, u3, u4]))) (hz : zB g ≤ q) (hd : 3 ≤ d) {K : zHp → Nat → Prop} (hK : K (va_up hp q (some (.inr (20, [va_rf r1, .int x2, va_rf r1, va_rf r1, u4])))) nx) : zMt l g yX19_init cX19_init 3 none d 0 0 [.ref q, va_rf r1, .int x2] hp nx (zQv g K) := by
  obtain ⟨d, rfl⟩ := Nat.exists_eq_add_of_le' (show 1 ≤ d by omega)
  apply met_X19_init
  unfold wp_X19_init
  rw [hz_p h (by decide) (by simp)]
  refine ⟨hz, ?_⟩
  dsimp only [List.set]
  refine x18_20 (show va_up hp q (some (.inr (20, [u0, u1, u2, va_rf r1, u4]))) q = some (.inr (20, [u0, u1, u2, va_rf r1, u4])) from va_s) hz (by omega) ?_
  rw [cva_uu]
  exact hK
theorem x20_20 {q : Nat} {u0 u1 u2 u3 u4 : Value} {r1 : Option Nat} {x2 : Int32} (h : hp q = some (.inr (20, [u0, u1, u2, u3, u4]))) (hz : zB g ≤ q) (hd : 4 ≤ d) {K : zHp → Nat → Prop} (hK : K (va_up hp q (some (.inr (20, [va_rf r1, .int x2, va_rf r1, va_rf r1, va_rf r1])))) nx) : zMt l g yX20_init cX20_init 3 none d 0 0 [.ref q, va_rf r1, .int x2] hp nx (zQv g K) := by
  obtain ⟨d, rfl⟩ := Nat.exists_eq_add_of_le' (show 1 ≤ d by omega)
  apply met_X20_init
  unfold wp_X20_init
  rw [hz_p h (by decide) (by simp)]
  refine ⟨hz, ?_⟩
  dsimp only [List.set]
  refine x19_20 (show va_up hp q (some (.inr (20, [u0, u1, u2, u3, va_rf r1]))) q = some (.inr (20, [u0, u1, u2, u3, va_rf r1])) from va_s) hz (by omega) ?_
  rw [cva_uu]
  exact hK
theorem x13_21 {q : Nat} {u0 u1 u2 u3 u4 u5 : Value} {r1 : Option Nat} (h : hp q = some (.inr (21, [u0, u1, u2, u3, u4, u5]))) (hz : zB g ≤ q) (hd : 1 ≤ d) {K : zHp → Nat → Prop} (hK : K (va_up hp q (some (.inr (21, [va_rf r1, u1, u2, u3, u4, u5])))) nx) : zMt l g yX13_init cX13_init 2 none d 0 0 [.ref q, va_rf r1] hp nx (zQv g K) := by
  obtain ⟨d, rfl⟩ := Nat.exists_eq_add_of_le' (show 1 ≤ d by omega)
  apply met_X13_init
  unfold wp_X13_init zptk zo
  simp only [h]
  exact ⟨by decide, hz, by simp, hK⟩
theorem x18_21 {q : Nat} {u0 u1 u2 u3 u4 u5 : Value} {r1 : Option Nat} {x2 : Int32} (h : hp q = some (.inr (21, [u0, u1, u2, u3, u4, u5]))) (hz : zB g ≤ q) (hd : 2 ≤ d) {K : zHp → Nat → Prop} (hK : K (va_up hp q (some (.inr (21, [va_rf r1, .int x2, va_rf r1, u3, u4, u5])))) nx) : zMt l g yX18_init cX18_init 3 none d 0 0 [.ref q, va_rf r1, .int x2] hp nx (zQv g K) := by
  obtain ⟨d, rfl⟩ := Nat.exists_eq_add_of_le' (show 1 ≤ d by omega)
  apply met_X18_init
  unfold wp_X18_init
  rw [hz_p h (by decide) (by simp)]
  refine ⟨hz, ?_⟩
  dsimp only [List.set]
  refine x13_21 (show va_up hp q (some (.inr (21, [u0, u1, va_rf r1, u3, u4, u5]))) q = some (.inr (21, [u0, u1, va_rf r1, u3, u4, u5])) from va_s) hz (by omega) ?_
  rw [cva_uu]
  rw [hz_p (show va_up hp q (some (.inr (21, [va_rf r1, u1, va_rf r1, u3, u4, u5]))) q = some (.inr (21, [va_rf r1, u1, va_rf r1, u3, u4, u5])) from va_s) (by decide) (by simp)]
  refine ⟨hz, ?_⟩
  rw [cva_uu]
  dsimp only [List.set]
  exact hK
theorem x19_21 {q : Nat} {u0 u1 u2 u3 u4 u5 : Value} {r1 : Option Nat} {x2 : Int32} (h : hp q = some (.inr (21, [u0, u1, u2, u3, u4, u5]))) (hz : zB g ≤ q) (hd : 3 ≤ d) {K : zHp → Nat → Prop} (hK : K (va_up hp q (some (.inr (21, [va_rf r1, .int x2, va_rf r1, va_rf r1, u4, u5])))) nx) : zMt l g yX19_init cX19_init 3 none d 0 0 [.ref q, va_rf r1, .int x2] hp nx (zQv g K) := by
  obtain ⟨d, rfl⟩ := Nat.exists_eq_add_of_le' (show 1 ≤ d by omega)
  apply met_X19_init
  unfold wp_X19_init
  rw [hz_p h (by decide) (by simp)]
  refine ⟨hz, ?_⟩
  dsimp only [List.set]
  refine x18_21 (show va_up hp q (some (.inr (21, [u0, u1, u2, va_rf r1, u4, u5]))) q = some (.inr (21, [u0, u1, u2, va_rf r1, u4, u5])) from va_s) hz (by omega) ?_
  rw [cva_uu]
  exact hK
theorem x20_21 {q : Nat} {u0 u1 u2 u3 u4 u5 : Value} {r1 : Option Nat} {x2 : Int32} (h : hp q = some (.inr (21, [u0, u1, u2, u3, u4, u5]))) (hz : zB g ≤ q) (hd : 4 ≤ d) {K : zHp → Nat → Prop} (hK : K (va_up hp q (some (.inr (21, [va_rf r1, .int x2, va_rf r1, va_rf r1, va_rf r1, u5])))) nx) : zMt l g yX20_init cX20_init 3 none d 0 0 [.ref q, va_rf r1, .int x2] hp nx (zQv g K) := by
  obtain ⟨d, rfl⟩ := Nat.exists_eq_add_of_le' (show 1 ≤ d by omega)
  apply met_X20_init
  unfold wp_X20_init
  rw [hz_p h (by decide) (by simp)]
  refine ⟨hz, ?_⟩
  dsimp only [List.set]
  refine x19_21 (show va_up hp q (some (.inr (21, [u0, u1, u2, u3, va_rf r1, u5]))) q = some (.inr (21, [u0, u1, u2, u3, va_rf r1, u5])) from va_s) hz (by omega) ?_
  rw [cva_uu]
  exact hK
theorem x21_21 {q : Nat} {u0 u1 u2 u3 u4 u5 : Value} {r1 : Option Nat} {x2 : Int32} (h : hp q = some (.inr (21, [u0, u1, u2, u3, u4, u5]))) (hz : zB g ≤ q) (hd : 5 ≤ d) {K : zHp → Nat → Prop} (hK : K (va_up hp q (some (.inr (21, [va_rf r1, .int x2, va_rf r1, va_rf r1, va_rf r1, va_rf r1])))) nx) : zMt l g yX21_init cX21_init 3 none d 0 0 [.ref q, va_rf r1, .int x2] hp nx (zQv g K) := by
  obtain ⟨d, rfl⟩ := Nat.exists_eq_add_of_le' (show 1 ≤ d by omega)
  apply met_X21_init
  unfold wp_X21_init
  rw [hz_p h (by decide) (by simp)]
  refine ⟨hz, ?_⟩
  dsimp only [List.set]
  refine x20_21 (show va_up hp q (some (.inr (21, [u0, u1, u2, u3, u4, va_rf r1]))) q = some (.inr (21, [u0, u1, u2, u3, u4, va_rf r1])) from va_s) hz (by omega) ?_
  rw [cva_uu]
  exact hK
theorem x13_22 {q : Nat} {u0 u1 u2 u3 : Value} {r1 : Option Nat} (h : hp q = some (.inr (22, [u0, u1, u2, u3]))) (hz : zB g ≤ q) (hd : 1 ≤ d) {K : zHp → Nat → Prop} (hK : K (va_up hp q (some (.inr (22, [va_rf r1, u1, u2, u3])))) nx) : zMt l g yX13_init cX13_init 2 none d 0 0 [.ref q, va_rf r1] hp nx (zQv g K) := by
  obtain ⟨d, rfl⟩ := Nat.exists_eq_add_of_le' (show 1 ≤ d by omega)
  apply met_X13_init
  unfold wp_X13_init zptk zo
  simp only [h]
  exact ⟨by decide, hz, by simp, hK⟩
theorem x18_22 {q : Nat} {u0 u1 u2 u3 : Value} {r1 : Option Nat} {x2 : Int32} (h : hp q = some (.inr (22, [u0, u1, u2, u3]))) (hz : zB g ≤ q) (hd : 2 ≤ d) {K : zHp → Nat → Prop} (hK : K (va_up hp q (some (.inr (22, [va_rf r1, .int x2, va_rf r1, u3])))) nx) : zMt l g yX18_init cX18_init 3 none d 0 0 [.ref q, va_rf r1, .int x2] hp nx (zQv g K) := by
  obtain ⟨d, rfl⟩ := Nat.exists_eq_add_of_le' (show 1 ≤ d by omega)
  apply met_X18_init
  unfold wp_X18_init
  rw [hz_p h (by decide) (by simp)]
  refine ⟨hz, ?_⟩
  dsimp only [List.set]
  refine x13_22 (show va_up hp q (some (.inr (22, [u0, u1, va_rf r1, u3]))) q = some (.inr (22, [u0, u1, va_rf r1, u3])) from va_s) hz (by omega) ?_
  rw [cva_uu]
  rw [hz_p (show va_up hp q (some (.inr (22, [va_rf r1, u1, va_rf r1, u3]))) q = some (.inr (22, [va_rf r1, u1, va_rf r1, u3])) from va_s) (by decide) (by simp)]
  refine ⟨hz, ?_⟩
  rw [cva_uu]
  dsimp only [List.set]
  exact hK
theorem x22_22 {q : Nat} {u0 u1 u2 u3 : Value} {r1 : Option Nat} {x2 : Int32} (h : hp q = some (.inr (22, [u0, u1, u2, u3]))) (hz : zB g ≤ q) (hd : 3 ≤ d) {K : zHp → Nat → Prop} (hK : K (va_up hp q (some (.inr (22, [va_rf r1, .int x2, va_rf r1, va_rf r1])))) nx) : zMt l g yX22_init cX22_init 3 none d 0 0 [.ref q, va_rf r1, .int x2] hp nx (zQv g K) := by
  obtain ⟨d, rfl⟩ := Nat.exists_eq_add_of_le' (show 1 ≤ d by omega)
  apply met_X22_init
  unfold wp_X22_init
  rw [hz_p h (by decide) (by simp)]
  refine ⟨hz, ?_⟩
  dsimp only [List.set]
  refine x18_22 (show va_up hp q (some (.inr (22, [u0, u1, u2, va_rf r1]))) q = some (.inr (22, [u0, u1, u2, va_rf r1])) from va_s) hz (by omega) ?_
  rw [cva_uu]
  exact hK
theorem x13_23 {q : Nat} {u0 u1 u2 : Value} {r1 : Option Nat} (h : hp q = some (.inr (23, [u0, u1, u2]))) (hz : zB g ≤ q) (hd : 1 ≤ d) {K : zHp → Nat → Prop} (hK : K (va_up hp q (some (.inr (23, [va_rf r1, u1, u2])))) nx) : zMt l g yX13_init cX13_init 2 none d 0 0 [.ref q, va_rf r1] hp nx (zQv g K) := by
  obtain ⟨d, rfl⟩ := Nat.exists_eq_add_of_le' (show 1 ≤ d by omega)
  apply met_X13_init
  unfold wp_X13_init zptk zo
  simp only [h]
  exact ⟨by decide, hz, by simp, hK⟩
theorem x23_23 {q : Nat} {u0 u1 u2 : Value} {r1 : Option Nat} {x2 : Int32} (h : hp q = some (.inr (23, [u0, u1, u2]))) (hz : zB g ≤ q) (hd : 2 ≤ d) {K : zHp → Nat → Prop} (hK : K (va_up hp q (some (.inr (23, [va_rf r1, .int x2, va_rf r1])))) nx) : zMt l g yX23_init cX23_init 3 none d 0 0 [.ref q, va_rf r1, .int x2] hp nx (zQv g K) := by
  obtain ⟨d, rfl⟩ := Nat.exists_eq_add_of_le' (show 1 ≤ d by omega)
  apply met_X23_init
  unfold wp_X23_init
  rw [hz_p h (by decide) (by simp)]
  refine ⟨hz, ?_⟩
  dsimp only [List.set]
  refine x13_23 (show va_up hp q (some (.inr (23, [u0, u1, va_rf r1]))) q = some (.inr (23, [u0, u1, va_rf r1])) from va_s) hz (by omega) ?_
  rw [cva_uu]
  rw [hz_p (show va_up hp q (some (.inr (23, [va_rf r1, u1, va_rf r1]))) q = some (.inr (23, [va_rf r1, u1, va_rf r1])) from va_s) (by decide) (by simp)]
  refine ⟨hz, ?_⟩
  rw [cva_uu]
  dsimp only [List.set]
  exact hK
theorem x13_24 {q : Nat} {u0 u1 u2 : Value} {r1 : Option Nat} (h : hp q = some (.inr (24, [u0, u1, u2]))) (hz : zB g ≤ q) (hd : 1 ≤ d) {K : zHp → Nat → Prop} (hK : K (va_up hp q (some (.inr (24, [va_rf r1, u1, u2])))) nx) : zMt l g yX13_init cX13_init 2 none d 0 0 [.ref q, va_rf r1] hp nx (zQv g K) := by
  obtain ⟨d, rfl⟩ := Nat.exists_eq_add_of_le' (show 1 ≤ d by omega)
  apply met_X13_init
  unfold wp_X13_init zptk zo
  simp only [h]
  exact ⟨by decide, hz, by simp, hK⟩
theorem x24_24 {q : Nat} {u0 u1 u2 : Value} {r1 : Option Nat} {x2 : UInt64} (h : hp q = some (.inr (24, [u0, u1, u2]))) (hz : zB g ≤ q) (hd : 2 ≤ d) {K : zHp → Nat → Prop} (hK : K (va_up hp q (some (.inr (24, [va_rf r1, .double x2, va_rf r1])))) nx) : zMt l g yX24_init cX24_init 4 none d 0 0 [.ref q, va_rf r1, .double x2] hp nx (zQv g K) := by
  obtain ⟨d, rfl⟩ := Nat.exists_eq_add_of_le' (show 1 ≤ d by omega)
  apply met_X24_init
  unfold wp_X24_init
  rw [hz_p h (by decide) (by simp)]
  refine ⟨hz, ?_⟩
  dsimp only [List.set]
  refine x13_24 (show va_up hp q (some (.inr (24, [u0, u1, va_rf r1]))) q = some (.inr (24, [u0, u1, va_rf r1])) from va_s) hz (by omega) ?_
  rw [cva_uu]
  rw [hz_p (show va_up hp q (some (.inr (24, [va_rf r1, u1, va_rf r1]))) q = some (.inr (24, [va_rf r1, u1, va_rf r1])) from va_s) (by decide) (by simp)]
  refine ⟨hz, ?_⟩
  rw [cva_uu]
  dsimp only [List.set]
  exact hK
theorem x13_25 {q : Nat} {u0 u1 u2 : Value} {r1 : Option Nat} (h : hp q = some (.inr (25, [u0, u1, u2]))) (hz : zB g ≤ q) (hd : 1 ≤ d) {K : zHp → Nat → Prop} (hK : K (va_up hp q (some (.inr (25, [va_rf r1, u1, u2])))) nx) : zMt l g yX13_init cX13_init 2 none d 0 0 [.ref q, va_rf r1] hp nx (zQv g K) := by
  obtain ⟨d, rfl⟩ := Nat.exists_eq_add_of_le' (show 1 ≤ d by omega)
  apply met_X13_init
  unfold wp_X13_init zptk zo
  simp only [h]
  exact ⟨by decide, hz, by simp, hK⟩
theorem x25_25 {q : Nat} {u0 u1 u2 : Value} {r1 : Option Nat} {r2 : Option Nat} (h : hp q = some (.inr (25, [u0, u1, u2]))) (hz : zB g ≤ q) (hd : 2 ≤ d) {K : zHp → Nat → Prop} (hK : K (va_up hp q (some (.inr (25, [va_rf r1, va_rf r2, va_rf r1])))) nx) : zMt l g yX25_init cX25_init 3 none d 0 0 [.ref q, va_rf r1, va_rf r2] hp nx (zQv g K) := by
  obtain ⟨d, rfl⟩ := Nat.exists_eq_add_of_le' (show 1 ≤ d by omega)
  apply met_X25_init
  unfold wp_X25_init
  rw [hz_p h (by decide) (by simp)]
  refine ⟨hz, ?_⟩
  dsimp only [List.set]
  refine x13_25 (show va_up hp q (some (.inr (25, [u0, u1, va_rf r1]))) q = some (.inr (25, [u0, u1, va_rf r1])) from va_s) hz (by omega) ?_
  rw [cva_uu]
  rw [hz_p (show va_up hp q (some (.inr (25, [va_rf r1, u1, va_rf r1]))) q = some (.inr (25, [va_rf r1, u1, va_rf r1])) from va_s) (by decide) (by simp)]
  refine ⟨hz, ?_⟩
  rw [cva_uu]
  dsimp only [List.set]
  exact hK
theorem x13_26 {q : Nat} {u0 u1 u2 u3 u4 : Value} {r1 : Option Nat} (h : hp q = some (.inr (26, [u0, u1, u2, u3, u4]))) (hz : zB g ≤ q) (hd : 1 ≤ d) {K : zHp → Nat → Prop} (hK : K (va_up hp q (some (.inr (26, [va_rf r1, u1, u2, u3, u4])))) nx) : zMt l g yX13_init cX13_init 2 none d 0 0 [.ref q, va_rf r1] hp nx (zQv g K) := by
  obtain ⟨d, rfl⟩ := Nat.exists_eq_add_of_le' (show 1 ≤ d by omega)
  apply met_X13_init
  unfold wp_X13_init zptk zo
  simp only [h]
  exact ⟨by decide, hz, by simp, hK⟩
theorem x26_26 {q : Nat} {u0 u1 u2 u3 u4 : Value} {r1 : Option Nat} {r2 : Option Nat} (h : hp q = some (.inr (26, [u0, u1, u2, u3, u4]))) (hz : zB g ≤ q) (hd : 2 ≤ d) {K : zHp → Nat → Prop} (hK : K (va_up hp q (some (.inr (26, [va_rf r1, va_rf r2, u2, u3, va_rf r1])))) nx) : zMt l g yX26_init cX26_init 3 none d 0 0 [.ref q, va_rf r1, va_rf r2] hp nx (zQv g K) := by
  obtain ⟨d, rfl⟩ := Nat.exists_eq_add_of_le' (show 1 ≤ d by omega)
  apply met_X26_init
  unfold wp_X26_init
  rw [hz_p h (by decide) (by simp)]
  refine ⟨hz, ?_⟩
  dsimp only [List.set]
  refine x13_26 (show va_up hp q (some (.inr (26, [u0, u1, u2, u3, va_rf r1]))) q = some (.inr (26, [u0, u1, u2, u3, va_rf r1])) from va_s) hz (by omega) ?_
  rw [cva_uu]
  rw [hz_p (show va_up hp q (some (.inr (26, [va_rf r1, u1, u2, u3, va_rf r1]))) q = some (.inr (26, [va_rf r1, u1, u2, u3, va_rf r1])) from va_s) (by decide) (by simp)]
  refine ⟨hz, ?_⟩
  rw [cva_uu]
  dsimp only [List.set]
  exact hK
theorem x13_27 {q : Nat} {u0 u1 u2 u3 u4 u5 : Value} {r1 : Option Nat} (h : hp q = some (.inr (27, [u0, u1, u2, u3, u4, u5]))) (hz : zB g ≤ q) (hd : 1 ≤ d) {K : zHp → Nat → Prop} (hK : K (va_up hp q (some (.inr (27, [va_rf r1, u1, u2, u3, u4, u5])))) nx) : zMt l g yX13_init cX13_init 2 none d 0 0 [.ref q, va_rf r1] hp nx (zQv g K) := by
  obtain ⟨d, rfl⟩ := Nat.exists_eq_add_of_le' (show 1 ≤ d by omega)
  apply met_X13_init
  unfold wp_X13_init zptk zo
  simp only [h]
  exact ⟨by decide, hz, by simp, hK⟩
theorem x26_27 {q : Nat} {u0 u1 u2 u3 u4 u5 : Value} {r1 : Option Nat} {r2 : Option Nat} (h : hp q = some (.inr (27, [u0, u1, u2, u3, u4, u5]))) (hz : zB g ≤ q) (hd : 2 ≤ d) {K : zHp → Nat → Prop} (hK : K (va_up hp q (some (.inr (27, [va_rf r1, va_rf r2, u2, u3, va_rf r1, u5])))) nx) : zMt l g yX26_init cX26_init 3 none d 0 0 [.ref q, va_rf r1, va_rf r2] hp nx (zQv g K) := by
  obtain ⟨d, rfl⟩ := Nat.exists_eq_add_of_le' (show 1 ≤ d by omega)
  apply met_X26_init
  unfold wp_X26_init
  rw [hz_p h (by decide) (by simp)]
  refine ⟨hz, ?_⟩
  dsimp only [List.set]
  refine x13_27 (show va_up hp q (some (.inr (27, [u0, u1, u2, u3, va_rf r1, u5]))) q = some (.inr (27, [u0, u1, u2, u3, va_rf r1, u5])) from va_s) hz (by omega) ?_
  rw [cva_uu]
  rw [hz_p (show va_up hp q (some (.inr (27, [va_rf r1, u1, u2, u3, va_rf r1, u5]))) q = some (.inr (27, [va_rf r1, u1, u2, u3, va_rf r1, u5])) from va_s) (by decide) (by simp)]
  refine ⟨hz, ?_⟩
  rw [cva_uu]
  dsimp only [List.set]
  exact hK
theorem x27_27 {q : Nat} {u0 u1 u2 u3 u4 u5 : Value} {r1 : Option Nat} {r2 : Option Nat} (h : hp q = some (.inr (27, [u0, u1, u2, u3, u4, u5]))) (hz : zB g ≤ q) (hd : 3 ≤ d) {K : zHp → Nat → Prop} (hK : K (va_up hp q (some (.inr (27, [va_rf r1, va_rf r2, u2, u3, va_rf r1, va_rf r1])))) nx) : zMt l g yX27_init cX27_init 3 none d 0 0 [.ref q, va_rf r1, va_rf r2] hp nx (zQv g K) := by
  obtain ⟨d, rfl⟩ := Nat.exists_eq_add_of_le' (show 1 ≤ d by omega)
  apply met_X27_init
  unfold wp_X27_init
  rw [hz_p h (by decide) (by simp)]
  refine ⟨hz, ?_⟩
  dsimp only [List.set]
  refine x26_27 (show va_up hp q (some (.inr (27, [u0, u1, u2, u3, u4, va_rf r1]))) q = some (.inr (27, [u0, u1, u2, u3, u4, va_rf r1])) from va_s) hz (by omega) ?_
  rw [cva_uu]
  exact hK
theorem x13_14 {q : Nat} {u0 u1 u2 u3 u4 : Value} {r1 : Option Nat} (h : hp q = some (.inr (14, [u0, u1, u2, u3, u4]))) (hz : zB g ≤ q) (hd : 1 ≤ d) {K : zHp → Nat → Prop} (hK : K (va_up hp q (some (.inr (14, [va_rf r1, u1, u2, u3, u4])))) nx) : zMt l g yX13_init cX13_init 2 none d 0 0 [.ref q, va_rf r1] hp nx (zQv g K) := by
  obtain ⟨d, rfl⟩ := Nat.exists_eq_add_of_le' (show 1 ≤ d by omega)
  apply met_X13_init
  unfold wp_X13_init zptk zo
  simp only [h]
  exact ⟨by decide, hz, by simp, hK⟩
theorem x14_14 {q : Nat} {u0 u1 u2 u3 u4 : Value} {r1 : Option Nat} {r2 : Option Nat} {r3 : Option Nat} {r4 : Option Nat} (h : hp q = some (.inr (14, [u0, u1, u2, u3, u4]))) (hz : zB g ≤ q) (hd : 2 ≤ d) {K : zHp → Nat → Prop} (hK : K (va_up hp q (some (.inr (14, [va_rf r1, va_rf r2, va_rf r3, va_rf r4, va_rf r1])))) nx) : zMt l g yX14_init cX14_init 5 none d 0 0 [.ref q, va_rf r1, va_rf r2, va_rf r3, va_rf r4] hp nx (zQv g K) := by
  obtain ⟨d, rfl⟩ := Nat.exists_eq_add_of_le' (show 1 ≤ d by omega)
  apply met_X14_init
  unfold wp_X14_init
  rw [hz_p h (by decide) (by simp)]
  refine ⟨hz, ?_⟩
  dsimp only [List.set]
  refine x13_14 (show va_up hp q (some (.inr (14, [u0, u1, u2, u3, va_rf r1]))) q = some (.inr (14, [u0, u1, u2, u3, va_rf r1])) from va_s) hz (by omega) ?_
  rw [cva_uu]
  rw [hz_p (show va_up hp q (some (.inr (14, [va_rf r1, u1, u2, u3, va_rf r1]))) q = some (.inr (14, [va_rf r1, u1, u2, u3, va_rf r1])) from va_s) (by decide) (by simp)]
  refine ⟨hz, ?_⟩
  rw [cva_uu]
  dsimp only [List.set]
  rw [hz_p (show va_up hp q (some (.inr (14, [va_rf r1, va_rf r2, u2, u3, va_rf r1]))) q = some (.inr (14, [va_rf r1, va_rf r2, u2, u3, va_rf r1])) from va_s) (by decide) (by simp)]
  refine ⟨hz, ?_⟩
  rw [cva_uu]
  dsimp only [List.set]
  rw [hz_p (show va_up hp q (some (.inr (14, [va_rf r1, va_rf r2, va_rf r3, u3, va_rf r1]))) q = some (.inr (14, [va_rf r1, va_rf r2, va_rf r3, u3, va_rf r1])) from va_s) (by decide) (by simp)]
  refine ⟨hz, ?_⟩
  rw [cva_uu]
  dsimp only [List.set]
  exact hK
theorem x13_16 {q : Nat} {u0 u1 u2 u3 u4 : Value} {r1 : Option Nat} (h : hp q = some (.inr (16, [u0, u1, u2, u3, u4]))) (hz : zB g ≤ q) (hd : 1 ≤ d) {K : zHp → Nat → Prop} (hK : K (va_up hp q (some (.inr (16, [u0, u1, u2, va_rf r1, u4])))) nx) : zMt l g yX13_init cX13_init 2 none d 0 0 [.ref q, va_rf r1] hp nx (zQv g K) := by
  obtain ⟨d, rfl⟩ := Nat.exists_eq_add_of_le' (show 1 ≤ d by omega)
  apply met_X13_init
  unfold wp_X13_init zptk zo
  simp only [h]
  exact ⟨by decide, hz, by simp, hK⟩
theorem x15_16 {q : Nat} {u0 u1 u2 u3 u4 : Value} {r1 : Option Nat} {r2 : Option Nat} {r3 : Option Nat} (h : hp q = some (.inr (16, [u0, u1, u2, u3, u4]))) (hz : zB g ≤ q) (hd : 2 ≤ d) {K : zHp → Nat → Prop} (hK : K (va_up hp q (some (.inr (16, [va_rf r2, va_rf r3, va_rf r1, va_rf r1, u4])))) nx) : zMt l g yX15_init cX15_init 4 none d 0 0 [.ref q, va_rf r1, va_rf r2, va_rf r3] hp nx (zQv g K) := by
  obtain ⟨d, rfl⟩ := Nat.exists_eq_add_of_le' (show 1 ≤ d by omega)
  apply met_X15_init
  unfold wp_X15_init
  rw [hz_p h (by decide) (by simp)]
  refine ⟨hz, ?_⟩
  dsimp only [List.set]
  refine x13_16 (show va_up hp q (some (.inr (16, [u0, u1, va_rf r1, u3, u4]))) q = some (.inr (16, [u0, u1, va_rf r1, u3, u4])) from va_s) hz (by omega) ?_
  rw [cva_uu]
  rw [hz_p (show va_up hp q (some (.inr (16, [u0, u1, va_rf r1, va_rf r1, u4]))) q = some (.inr (16, [u0, u1, va_rf r1, va_rf r1, u4])) from va_s) (by decide) (by simp)]
  refine ⟨hz, ?_⟩
  rw [cva_uu]
  dsimp only [List.set]
  rw [hz_p (show va_up hp q (some (.inr (16, [va_rf r2, u1, va_rf r1, va_rf r1, u4]))) q = some (.inr (16, [va_rf r2, u1, va_rf r1, va_rf r1, u4])) from va_s) (by decide) (by simp)]
  refine ⟨hz, ?_⟩
  rw [cva_uu]
  dsimp only [List.set]
  exact hK
theorem x16_16 {q : Nat} {u0 u1 u2 u3 u4 : Value} {r1 : Option Nat} {r2 : Option Nat} {r3 : Option Nat} (h : hp q = some (.inr (16, [u0, u1, u2, u3, u4]))) (hz : zB g ≤ q) (hd : 3 ≤ d) {K : zHp → Nat → Prop} (hK : K (va_up hp q (some (.inr (16, [va_rf r2, va_rf r3, va_rf r1, va_rf r1, va_rf r1])))) nx) : zMt l g yX16_init cX16_init 4 none d 0 0 [.ref q, va_rf r1, va_rf r2, va_rf r3] hp nx (zQv g K) := by
  obtain ⟨d, rfl⟩ := Nat.exists_eq_add_of_le' (show 1 ≤ d by omega)
  apply met_X16_init
  unfold wp_X16_init
  rw [hz_p h (by decide) (by simp)]
  refine ⟨hz, ?_⟩
  dsimp only [List.set]
  refine x15_16 (show va_up hp q (some (.inr (16, [u0, u1, u2, u3, va_rf r1]))) q = some (.inr (16, [u0, u1, u2, u3, va_rf r1])) from va_s) hz (by omega) ?_
  rw [cva_uu]
  exact hK
theorem x13_17 {q : Nat} {u0 u1 u2 u3 u4 u5 : Value} {r1 : Option Nat} (h : hp q = some (.inr (17, [u0, u1, u2, u3, u4, u5]))) (hz : zB g ≤ q) (hd : 1 ≤ d) {K : zHp → Nat → Prop} (hK : K (va_up hp q (some (.inr (17, [u0, u1, u2, va_rf r1, u4, u5])))) nx) : zMt l g yX13_init cX13_init 2 none d 0 0 [.ref q, va_rf r1] hp nx (zQv g K) := by
  obtain ⟨d, rfl⟩ := Nat.exists_eq_add_of_le' (show 1 ≤ d by omega)
  apply met_X13_init
  unfold wp_X13_init zptk zo
  simp only [h]
  exact ⟨by decide, hz, by simp, hK⟩
theorem x15_17 {q : Nat} {u0 u1 u2 u3 u4 u5 : Value} {r1 : Option Nat} {r2 : Option Nat} {r3 : Option Nat} (h : hp q = some (.inr (17, [u0, u1, u2, u3, u4, u5]))) (hz : zB g ≤ q) (hd : 2 ≤ d) {K : zHp → Nat → Prop} (hK : K (va_up hp q (some (.inr (17, [va_rf r2, va_rf r3, va_rf r1, va_rf r1, u4, u5])))) nx) : zMt l g yX15_init cX15_init 4 none d 0 0 [.ref q, va_rf r1, va_rf r2, va_rf r3] hp nx (zQv g K) := by
  obtain ⟨d, rfl⟩ := Nat.exists_eq_add_of_le' (show 1 ≤ d by omega)
  apply met_X15_init
  unfold wp_X15_init
  rw [hz_p h (by decide) (by simp)]
  refine ⟨hz, ?_⟩
  dsimp only [List.set]
  refine x13_17 (show va_up hp q (some (.inr (17, [u0, u1, va_rf r1, u3, u4, u5]))) q = some (.inr (17, [u0, u1, va_rf r1, u3, u4, u5])) from va_s) hz (by omega) ?_
  rw [cva_uu]
  rw [hz_p (show va_up hp q (some (.inr (17, [u0, u1, va_rf r1, va_rf r1, u4, u5]))) q = some (.inr (17, [u0, u1, va_rf r1, va_rf r1, u4, u5])) from va_s) (by decide) (by simp)]
  refine ⟨hz, ?_⟩
  rw [cva_uu]
  dsimp only [List.set]
  rw [hz_p (show va_up hp q (some (.inr (17, [va_rf r2, u1, va_rf r1, va_rf r1, u4, u5]))) q = some (.inr (17, [va_rf r2, u1, va_rf r1, va_rf r1, u4, u5])) from va_s) (by decide) (by simp)]
  refine ⟨hz, ?_⟩
  rw [cva_uu]
  dsimp only [List.set]
  exact hK
theorem x16_17 {q : Nat} {u0 u1 u2 u3 u4 u5 : Value} {r1 : Option Nat} {r2 : Option Nat} {r3 : Option Nat} (h : hp q = some (.inr (17, [u0, u1, u2, u3, u4, u5]))) (hz : zB g ≤ q) (hd : 3 ≤ d) {K : zHp → Nat → Prop} (hK : K (va_up hp q (some (.inr (17, [va_rf r2, va_rf r3, va_rf r1, va_rf r1, va_rf r1, u5])))) nx) : zMt l g yX16_init cX16_init 4 none d 0 0 [.ref q, va_rf r1, va_rf r2, va_rf r3] hp nx (zQv g K) := by
  obtain ⟨d, rfl⟩ := Nat.exists_eq_add_of_le' (show 1 ≤ d by omega)
  apply met_X16_init
  unfold wp_X16_init
  rw [hz_p h (by decide) (by simp)]
  refine ⟨hz, ?_⟩
  dsimp only [List.set]
  refine x15_17 (show va_up hp q (some (.inr (17, [u0, u1, u2, u3, va_rf r1, u5]))) q = some (.inr (17, [u0, u1, u2, u3, va_rf r1, u5])) from va_s) hz (by omega) ?_
  rw [cva_uu]
  exact hK
theorem x17_17 {q : Nat} {u0 u1 u2 u3 u4 u5 : Value} {r1 : Option Nat} {r2 : Option Nat} {r3 : Option Nat} (h : hp q = some (.inr (17, [u0, u1, u2, u3, u4, u5]))) (hz : zB g ≤ q) (hd : 4 ≤ d) {K : zHp → Nat → Prop} (hK : K (va_up hp q (some (.inr (17, [va_rf r2, va_rf r3, va_rf r1, va_rf r1, va_rf r1, va_rf r1])))) nx) : zMt l g yX17_init cX17_init 4 none d 0 0 [.ref q, va_rf r1, va_rf r2, va_rf r3] hp nx (zQv g K) := by
  obtain ⟨d, rfl⟩ := Nat.exists_eq_add_of_le' (show 1 ≤ d by omega)
  apply met_X17_init
  unfold wp_X17_init
  rw [hz_p h (by decide) (by simp)]
  refine ⟨hz, ?_⟩
  dsimp only [List.set]
  refine x16_17 (show va_up hp q (some (.inr (17, [u0, u1, u2, u3, u4, va_rf r1]))) q = some (.inr (17, [u0, u1, u2, u3, u4, va_rf r1])) from va_s) hz (by omega) ?_
  rw [cva_uu]
  exact hK
theorem x13_29 {q : Nat} {u0 u1 u2 u3 u4 u5 : Value} {r1 : Option Nat} (h : hp q = some (.inr (29, [u0, u1, u2, u3, u4, u5]))) (hz : zB g ≤ q) (hd : 1 ≤ d) {K : zHp → Nat → Prop} (hK : K (va_up hp q (some (.inr (29, [u0, u1, u2, va_rf r1, u4, u5])))) nx) : zMt l g yX13_init cX13_init 2 none d 0 0 [.ref q, va_rf r1] hp nx (zQv g K) := by
  obtain ⟨d, rfl⟩ := Nat.exists_eq_add_of_le' (show 1 ≤ d by omega)
  apply met_X13_init
  unfold wp_X13_init zptk zo
  simp only [h]
  exact ⟨by decide, hz, by simp, hK⟩
theorem x15_29 {q : Nat} {u0 u1 u2 u3 u4 u5 : Value} {r1 : Option Nat} {r2 : Option Nat} {r3 : Option Nat} (h : hp q = some (.inr (29, [u0, u1, u2, u3, u4, u5]))) (hz : zB g ≤ q) (hd : 2 ≤ d) {K : zHp → Nat → Prop} (hK : K (va_up hp q (some (.inr (29, [va_rf r2, va_rf r3, va_rf r1, va_rf r1, u4, u5])))) nx) : zMt l g yX15_init cX15_init 4 none d 0 0 [.ref q, va_rf r1, va_rf r2, va_rf r3] hp nx (zQv g K) := by
  obtain ⟨d, rfl⟩ := Nat.exists_eq_add_of_le' (show 1 ≤ d by omega)
  apply met_X15_init
  unfold wp_X15_init
  rw [hz_p h (by decide) (by simp)]
  refine ⟨hz, ?_⟩
  dsimp only [List.set]
  refine x13_29 (show va_up hp q (some (.inr (29, [u0, u1, va_rf r1, u3, u4, u5]))) q = some (.inr (29, [u0, u1, va_rf r1, u3, u4, u5])) from va_s) hz (by omega) ?_
  rw [cva_uu]
  rw [hz_p (show va_up hp q (some (.inr (29, [u0, u1, va_rf r1, va_rf r1, u4, u5]))) q = some (.inr (29, [u0, u1, va_rf r1, va_rf r1, u4, u5])) from va_s) (by decide) (by simp)]
  refine ⟨hz, ?_⟩
  rw [cva_uu]
  dsimp only [List.set]
  rw [hz_p (show va_up hp q (some (.inr (29, [va_rf r2, u1, va_rf r1, va_rf r1, u4, u5]))) q = some (.inr (29, [va_rf r2, u1, va_rf r1, va_rf r1, u4, u5])) from va_s) (by decide) (by simp)]
  refine ⟨hz, ?_⟩
  rw [cva_uu]
  dsimp only [List.set]
  exact hK
theorem x29_29 {q : Nat} {u0 u1 u2 u3 u4 u5 : Value} {r1 : Option Nat} {x2 : Int32} {r3 : Option Nat} {r4 : Option Nat} (h : hp q = some (.inr (29, [u0, u1, u2, u3, u4, u5]))) (hz : zB g ≤ q) (hb : x2 = 0 ∨ x2 = 1) (hd : 3 ≤ d) {K : zHp → Nat → Prop} (hK : K (va_up hp q (some (.inr (29, [va_rf r3, va_rf r4, va_rf r1, va_rf r1, .int x2, va_rf r1])))) nx) : zMt l g yX29_init cX29_init 5 none d 0 0 [.ref q, va_rf r1, .int x2, va_rf r3, va_rf r4] hp nx (zQv g K) := by
  obtain ⟨d, rfl⟩ := Nat.exists_eq_add_of_le' (show 1 ≤ d by omega)
  apply met_X29_init
  unfold wp_X29_init
  rw [hz_p h (by decide) (by simp)]
  refine ⟨hz, ?_⟩
  dsimp only [List.set]
  refine x15_29 (show va_up hp q (some (.inr (29, [u0, u1, u2, u3, u4, va_rf r1]))) q = some (.inr (29, [u0, u1, u2, u3, u4, va_rf r1])) from va_s) hz (by omega) ?_
  rw [cva_uu]
  refine ⟨hb, ?_⟩
  rw [hz_p (show va_up hp q (some (.inr (29, [va_rf r3, va_rf r4, va_rf r1, va_rf r1, u4, va_rf r1]))) q = some (.inr (29, [va_rf r3, va_rf r4, va_rf r1, va_rf r1, u4, va_rf r1])) from va_s) (by decide) (by simp)]
  refine ⟨hz, ?_⟩
  rw [cva_uu]
  dsimp only [List.set]
  exact hK
theorem x28_28 {q : Nat} {u0 u1 u2 : Value} {x1 : Int32} {r2 : Option Nat} (h : hp q = some (.inr (28, [u0, u1, u2]))) (hz : zB g ≤ q) (hd : 1 ≤ d) {K : zHp → Nat → Prop} (hK : K (va_up hp q (some (.inr (28, [.int x1, va_rf r2, u2])))) nx) : zMt l g yX28_init cX28_init 3 none d 0 0 [.ref q, .int x1, va_rf r2] hp nx (zQv g K) := by
  obtain ⟨d, rfl⟩ := Nat.exists_eq_add_of_le' (show 1 ≤ d by omega)
  apply met_X28_init
  unfold wp_X28_init
  rw [hz_p h (by decide) (by simp)]
  refine ⟨hz, ?_⟩
  dsimp only [List.set]
  rw [hz_p (show va_up hp q (some (.inr (28, [.int x1, u1, u2]))) q = some (.inr (28, [.int x1, u1, u2])) from va_s) (by decide) (by simp)]
  refine ⟨hz, ?_⟩
  rw [cva_uu]
  dsimp only [List.set]
  exact hK
theorem x30_30 {q : Nat} {u0 u1 u2 : Value} {r1 : Option Nat} {r2 : Option Nat} {r3 : Option Nat} (h : hp q = some (.inr (30, [u0, u1, u2]))) (hz : zB g ≤ q) (hd : 1 ≤ d) {K : zHp → Nat → Prop} (hK : K (va_up hp q (some (.inr (30, [va_rf r1, va_rf r2, va_rf r3])))) nx) : zMt l g yX30_init cX30_init 4 none d 0 0 [.ref q, va_rf r1, va_rf r2, va_rf r3] hp nx (zQv g K) := by
  obtain ⟨d, rfl⟩ := Nat.exists_eq_add_of_le' (show 1 ≤ d by omega)
  apply met_X30_init
  unfold wp_X30_init
  rw [hz_p h (by decide) (by simp)]
  refine ⟨hz, ?_⟩
  dsimp only [List.set]
  rw [hz_p (show va_up hp q (some (.inr (30, [va_rf r1, u1, u2]))) q = some (.inr (30, [va_rf r1, u1, u2])) from va_s) (by decide) (by simp)]
  refine ⟨hz, ?_⟩
  rw [cva_uu]
  dsimp only [List.set]
  rw [hz_p (show va_up hp q (some (.inr (30, [va_rf r1, va_rf r2, u2]))) q = some (.inr (30, [va_rf r1, va_rf r2, u2])) from va_s) (by decide) (by simp)]
  refine ⟨hz, ?_⟩
  rw [cva_uu]
  dsimp only [List.set]
  exact hK
theorem x2_2 {q : Nat} {u0 u1 u2 : Value} {x1 : Int32} (h : hp q = some (.inr (2, [u0, u1, u2]))) (hz : zB g ≤ q) (hd : 1 ≤ d) {K : zHp → Nat → Prop} (hK : K (va_up hp q (some (.inr (2, [.int x1, u1, .double 9221120237041090560])))) nx) : zMt l g yX2_init cX2_init 2 none d 0 0 [.ref q, .int x1] hp nx (zQv g K) := by
  obtain ⟨d, rfl⟩ := Nat.exists_eq_add_of_le' (show 1 ≤ d by omega)
  apply met_X2_init
  unfold wp_X2_init
  rw [hz_p h (by decide) (by simp)]
  refine ⟨hz, ?_⟩
  dsimp only [List.set]
  rw [hz_p (show va_up hp q (some (.inr (2, [u0, u1, .double 9221120237041090560]))) q = some (.inr (2, [u0, u1, .double 9221120237041090560])) from va_s) (by decide) (by simp)]
  refine ⟨hz, ?_⟩
  rw [cva_uu]
  dsimp only [List.set]
  exact hK
theorem x2_6 {q : Nat} {u0 u1 u2 : Value} {x1 : Int32} (h : hp q = some (.inr (6, [u0, u1, u2]))) (hz : zB g ≤ q) (hd : 1 ≤ d) {K : zHp → Nat → Prop} (hK : K (va_up hp q (some (.inr (6, [.int x1, u1, .double 9221120237041090560])))) nx) : zMt l g yX2_init cX2_init 2 none d 0 0 [.ref q, .int x1] hp nx (zQv g K) := by
  obtain ⟨d, rfl⟩ := Nat.exists_eq_add_of_le' (show 1 ≤ d by omega)
  apply met_X2_init
  unfold wp_X2_init
  rw [hz_p h (by decide) (by simp)]
  refine ⟨hz, ?_⟩
  dsimp only [List.set]
  rw [hz_p (show va_up hp q (some (.inr (6, [u0, u1, .double 9221120237041090560]))) q = some (.inr (6, [u0, u1, .double 9221120237041090560])) from va_s) (by decide) (by simp)]
  refine ⟨hz, ?_⟩
  rw [cva_uu]
  dsimp only [List.set]
  exact hK
theorem x6_6 {q : Nat} {u0 u1 u2 : Value} {x1 : Int32} (h : hp q = some (.inr (6, [u0, u1, u2]))) (hz : zB g ≤ q) (hd : 2 ≤ d) {K : zHp → Nat → Prop} (hK : K (va_up hp q (some (.inr (6, [.int x1, u1, .double 9221120237041090560])))) nx) : zMt l g yX6_init cX6_init 2 none d 0 0 [.ref q, .int x1] hp nx (zQv g K) := by
  obtain ⟨d, rfl⟩ := Nat.exists_eq_add_of_le' (show 1 ≤ d by omega)
  apply met_X6_init
  unfold wp_X6_init
  refine x2_6 h hz (by omega) ?_
  exact hK
theorem x2_7 {q : Nat} {u0 u1 u2 : Value} {x1 : Int32} (h : hp q = some (.inr (7, [u0, u1, u2]))) (hz : zB g ≤ q) (hd : 1 ≤ d) {K : zHp → Nat → Prop} (hK : K (va_up hp q (some (.inr (7, [.int x1, u1, .double 9221120237041090560])))) nx) : zMt l g yX2_init cX2_init 2 none d 0 0 [.ref q, .int x1] hp nx (zQv g K) := by
  obtain ⟨d, rfl⟩ := Nat.exists_eq_add_of_le' (show 1 ≤ d by omega)
  apply met_X2_init
  unfold wp_X2_init
  rw [hz_p h (by decide) (by simp)]
  refine ⟨hz, ?_⟩
  dsimp only [List.set]
  rw [hz_p (show va_up hp q (some (.inr (7, [u0, u1, .double 9221120237041090560]))) q = some (.inr (7, [u0, u1, .double 9221120237041090560])) from va_s) (by decide) (by simp)]
  refine ⟨hz, ?_⟩
  rw [cva_uu]
  dsimp only [List.set]
  exact hK
theorem x7_7 {q : Nat} {u0 u1 u2 : Value} {x1 : Int32} (h : hp q = some (.inr (7, [u0, u1, u2]))) (hz : zB g ≤ q) (hd : 2 ≤ d) {K : zHp → Nat → Prop} (hK : K (va_up hp q (some (.inr (7, [.int x1, u1, .double 9221120237041090560])))) nx) : zMt l g yX7_init cX7_init 2 none d 0 0 [.ref q, .int x1] hp nx (zQv g K) := by
  obtain ⟨d, rfl⟩ := Nat.exists_eq_add_of_le' (show 1 ≤ d by omega)
  apply met_X7_init
  unfold wp_X7_init
  refine x2_7 h hz (by omega) ?_
  exact hK
theorem x2_10 {q : Nat} {u0 u1 u2 : Value} {x1 : Int32} (h : hp q = some (.inr (10, [u0, u1, u2]))) (hz : zB g ≤ q) (hd : 1 ≤ d) {K : zHp → Nat → Prop} (hK : K (va_up hp q (some (.inr (10, [.int x1, u1, .double 9221120237041090560])))) nx) : zMt l g yX2_init cX2_init 2 none d 0 0 [.ref q, .int x1] hp nx (zQv g K) := by
  obtain ⟨d, rfl⟩ := Nat.exists_eq_add_of_le' (show 1 ≤ d by omega)
  apply met_X2_init
  unfold wp_X2_init
  rw [hz_p h (by decide) (by simp)]
  refine ⟨hz, ?_⟩
  dsimp only [List.set]
  rw [hz_p (show va_up hp q (some (.inr (10, [u0, u1, .double 9221120237041090560]))) q = some (.inr (10, [u0, u1, .double 9221120237041090560])) from va_s) (by decide) (by simp)]
  refine ⟨hz, ?_⟩
  rw [cva_uu]
  dsimp only [List.set]
  exact hK
theorem x10_10 {q : Nat} {u0 u1 u2 : Value} {x1 : Int32} (h : hp q = some (.inr (10, [u0, u1, u2]))) (hz : zB g ≤ q) (hd : 2 ≤ d) {K : zHp → Nat → Prop} (hK : K (va_up hp q (some (.inr (10, [.int x1, u1, .double 9221120237041090560])))) nx) : zMt l g yX10_init cX10_init 2 none d 0 0 [.ref q, .int x1] hp nx (zQv g K) := by
  obtain ⟨d, rfl⟩ := Nat.exists_eq_add_of_le' (show 1 ≤ d by omega)
  apply met_X10_init
  unfold wp_X10_init
  refine x2_10 h hz (by omega) ?_
  exact hK
theorem x2_8 {q : Nat} {u0 u1 u2 : Value} {x1 : Int32} (h : hp q = some (.inr (8, [u0, u1, u2]))) (hz : zB g ≤ q) (hd : 1 ≤ d) {K : zHp → Nat → Prop} (hK : K (va_up hp q (some (.inr (8, [.int x1, u1, .double 9221120237041090560])))) nx) : zMt l g yX2_init cX2_init 2 none d 0 0 [.ref q, .int x1] hp nx (zQv g K) := by
  obtain ⟨d, rfl⟩ := Nat.exists_eq_add_of_le' (show 1 ≤ d by omega)
  apply met_X2_init
  unfold wp_X2_init
  rw [hz_p h (by decide) (by simp)]
  refine ⟨hz, ?_⟩
  dsimp only [List.set]
  rw [hz_p (show va_up hp q (some (.inr (8, [u0, u1, .double 9221120237041090560]))) q = some (.inr (8, [u0, u1, .double 9221120237041090560])) from va_s) (by decide) (by simp)]
  refine ⟨hz, ?_⟩
  rw [cva_uu]
  dsimp only [List.set]
  exact hK
theorem x6_8 {q : Nat} {u0 u1 u2 : Value} {x1 : Int32} (h : hp q = some (.inr (8, [u0, u1, u2]))) (hz : zB g ≤ q) (hd : 2 ≤ d) {K : zHp → Nat → Prop} (hK : K (va_up hp q (some (.inr (8, [.int x1, u1, .double 9221120237041090560])))) nx) : zMt l g yX6_init cX6_init 2 none d 0 0 [.ref q, .int x1] hp nx (zQv g K) := by
  obtain ⟨d, rfl⟩ := Nat.exists_eq_add_of_le' (show 1 ≤ d by omega)
  apply met_X6_init
  unfold wp_X6_init
  refine x2_8 h hz (by omega) ?_
  exact hK
theorem x8_8 {q : Nat} {u0 u1 u2 : Value} {x1 : Int32} (h : hp q = some (.inr (8, [u0, u1, u2]))) (hz : zB g ≤ q) (hd : 3 ≤ d) {K : zHp → Nat → Prop} (hK : K (va_up hp q (some (.inr (8, [.int x1, u1, .double 9221120237041090560])))) nx) : zMt l g yX8_init cX8_init 2 none d 0 0 [.ref q, .int x1] hp nx (zQv g K) := by
  obtain ⟨d, rfl⟩ := Nat.exists_eq_add_of_le' (show 1 ≤ d by omega)
  apply met_X8_init
  unfold wp_X8_init
  refine x6_8 h hz (by omega) ?_
  exact hK
theorem x2_9 {q : Nat} {u0 u1 u2 : Value} {x1 : Int32} (h : hp q = some (.inr (9, [u0, u1, u2]))) (hz : zB g ≤ q) (hd : 1 ≤ d) {K : zHp → Nat → Prop} (hK : K (va_up hp q (some (.inr (9, [.int x1, u1, .double 9221120237041090560])))) nx) : zMt l g yX2_init cX2_init 2 none d 0 0 [.ref q, .int x1] hp nx (zQv g K) := by
  obtain ⟨d, rfl⟩ := Nat.exists_eq_add_of_le' (show 1 ≤ d by omega)
  apply met_X2_init
  unfold wp_X2_init
  rw [hz_p h (by decide) (by simp)]
  refine ⟨hz, ?_⟩
  dsimp only [List.set]
  rw [hz_p (show va_up hp q (some (.inr (9, [u0, u1, .double 9221120237041090560]))) q = some (.inr (9, [u0, u1, .double 9221120237041090560])) from va_s) (by decide) (by simp)]
  refine ⟨hz, ?_⟩
  rw [cva_uu]
  dsimp only [List.set]
  exact hK
theorem x7_9 {q : Nat} {u0 u1 u2 : Value} {x1 : Int32} (h : hp q = some (.inr (9, [u0, u1, u2]))) (hz : zB g ≤ q) (hd : 2 ≤ d) {K : zHp → Nat → Prop} (hK : K (va_up hp q (some (.inr (9, [.int x1, u1, .double 9221120237041090560])))) nx) : zMt l g yX7_init cX7_init 2 none d 0 0 [.ref q, .int x1] hp nx (zQv g K) := by
  obtain ⟨d, rfl⟩ := Nat.exists_eq_add_of_le' (show 1 ≤ d by omega)
  apply met_X7_init
  unfold wp_X7_init
  refine x2_9 h hz (by omega) ?_
  exact hK
theorem x9_9 {q : Nat} {u0 u1 u2 : Value} {x1 : Int32} (h : hp q = some (.inr (9, [u0, u1, u2]))) (hz : zB g ≤ q) (hd : 3 ≤ d) {K : zHp → Nat → Prop} (hK : K (va_up hp q (some (.inr (9, [.int x1, u1, .double 9221120237041090560])))) nx) : zMt l g yX9_init cX9_init 2 none d 0 0 [.ref q, .int x1] hp nx (zQv g K) := by
  obtain ⟨d, rfl⟩ := Nat.exists_eq_add_of_le' (show 1 ≤ d by omega)
  apply met_X9_init
  unfold wp_X9_init
  refine x7_9 h hz (by omega) ?_
  exact hK
end CO
