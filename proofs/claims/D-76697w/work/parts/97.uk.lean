set_option maxRecDepth 100000
/-! THE REFERENCE's operations: axis -/
section UK
variable {l : Launch} {g : zG} {d m0 : Nat} {τ τ' τm τ1 τ2 : tS} {hp : zHp} {nx : Nat}
/-- alike as to burdens -/
def s_sim (ly ly' : sY) : Prop := ∀ t, (ly t).map (fun L => (L.1, s_nc L)) = (ly' t).map (fun L => (L.1, s_nc L))
theorem s_ld_sim {B : Nat → Nat} {fm : sF} {ly ly' : sY} (h : s_sim ly ly') (k : Nat) : s_ld B fm ly k = s_ld B fm ly' k := by
  unfold s_ld
  congr 2
  refine List.map_congr_left (fun m _ => ?_)
  by_cases h3 : 300 ≤ m.1
  · simp only [if_pos h3]
    have e := h (m.1 % 10)
    cases ha : ly (m.1 % 10) with
    | none =>
      cases hb : ly' (m.1 % 10) with
      | none => rfl
      | some L' => rw [ha, hb] at e; cases e
    | some L =>
      cases hb : ly' (m.1 % 10) with
      | none => rw [ha, hb] at e; cases e
      | some L' =>
        rw [ha, hb] at e
        simp only [Option.map_some, Option.some.injEq, Prod.mk.injEq] at e
        simp only [e.1, e.2]
  · simp only [if_neg h3]
theorem s_bu_sim {fm : sF} {ly ly' : sY} (h : s_sim ly ly') : ∀ n c, s_bu fm ly n c = s_bu fm ly' n c := by
  intro n
  induction n with
  | zero => intro c; rfl
  | succ n ih =>
    intro c
    show s_bs _ fm ly c = s_bs _ fm ly' c
    have : s_bu fm ly n = s_bu fm ly' n := funext ih
    rw [this]
    unfold s_bs
    refine s_sm_congr fun k _ => ?_
    rw [s_ld_sim h k]
theorem s_tm_sim {fm : sF} {ly ly' : sY} (h : s_sim ly ly') : s_tm fm ly ↔ s_tm fm ly' := by
  have e : s_BU fm ly = s_BU fm ly' := funext fun c => s_bu_sim h 31 c
  unfold s_tm
  rw [e]
  have key : ∀ (ly ly' : sY), s_sim ly ly' → (∃ t, t < 6 ∧ ∃ L, ly t = some L ∧ 2000 < s_BU fm ly' L.1 * s_nc L) → ∃ t, t < 6 ∧ ∃ L, ly' t = some L ∧ 2000 < s_BU fm ly' L.1 * s_nc L := by
    rintro ly ly' h ⟨t, ht, L, hL, hb⟩
    have e := h t
    rw [hL] at e
    cases hb' : ly' t with
    | none => rw [hb'] at e; cases e
    | some L' =>
      rw [hb'] at e
      simp only [Option.map_some, Option.some.injEq, Prod.mk.injEq] at e
      exact ⟨t, ht, L', hb', by rw [← e.1, ← e.2]; exact hb⟩
  constructor
  · rintro (q | q)
    · exact Or.inl q
    · exact Or.inr (key ly ly' h q)
  · rintro (q | q)
    · exact Or.inl q
    · right
      have h' : s_sim ly' ly := fun t => (h t).symm
      have := key ly' ly h' (by rw [e]; exact q)
      rw [e] at this
      exact this
theorem s_sim_up {ly : sY} {t : Nat} {L L' : sL} (h1 : L.1 = L'.1) (h2 : s_nc L = s_nc L') : s_sim (s_up ly t (some L)) (s_up ly t (some L')) := by
  intro u
  by_cases e : u = t
  · subst e; rw [s_up_s, s_up_s]; simp only [Option.map_some, h1, h2]
  · rw [s_up_o e, s_up_o e]
/-- another axis -/
def s_ax (L : sL) (w : Nat) (a : List UInt64) : sL := if w = 0 then (L.1, L.2.1, L.2.2.1, a, L.2.2.2.2) else (L.1, L.2.1, L.2.2.1, L.2.2.2.1, a)
/-- the state with another size of an axis -/
def tas (τ : tS) (a n : Nat) : tS := taI τ 10 0 (va_up (τ.2.2.1 10 0) a (nI n))
/-- any state whose one axis is another one -/
theorem tSh_ax {t w n : Nat} {L : sL} (hS : tSh τ) (hN : tNm τ) (ht : t < 6) (hw : w < 2) (hL : tly τ t = some L) (hn : 1 ≤ n ∧ n ≤ 8) (hw1 : w = 1 → L.2.2.1 ≠ none)
    (hI : ∀ k, k < 14 → k ≠ 10 → τm.2.2.1 k = τ.2.2.1 k) (h10 : τm.2.2.1 10 = (tas τ (2 * t + w) n).2.2.1 10)
    (hD : ∀ k i j, k < 14 → ¬ (k = 11 ∧ i = 2 * t + w) → τm.2.2.2 k i j = τ.2.2.2 k i j) (hAx : ∀ j, j < 8 → s_B (τm.2.2.2 11 (2 * t + w) j)) :
    (∃ rk, tOK rk τm) ∧ (¬ s_tm (tfm τ) (s_up (tly τ) t (some (s_ax L w ((List.range n).map (τm.2.2.2 11 (2 * t + w)))))) → tSh τm) ∧ tst τm = (tfm τ, s_up (tly τ) t (some (s_ax L w ((List.range n).map (τm.2.2.2 11 (2 * t + w))))), tkd τ, tow τ) ∧ tNm τm := by
  obtain ⟨⟨rk, hO⟩, hnb, hx⟩ := hS
  obtain ⟨h6, lo, la, e7, e8, ⟨hn1, hn8, e10⟩, eax, hot⟩ := tly_some hO.2.1 ht hL
  have v10 : ∀ j, j ≠ 2 * t + w → τm.2.2.1 10 0 j = τ.2.2.1 10 0 j := fun j hj => by rw [h10]; unfold tas; rw [tqa, va_o hj]
  have v10s : τm.2.2.1 10 0 (2 * t + w) = nI n := by rw [h10]; unfold tas; rw [tqa, va_s]
  have v10o : ∀ i j, i ≠ 0 → τm.2.2.1 10 i j = τ.2.2.1 10 i j := fun i j hi => by rw [h10]; unfold tas; rw [tqb hi]
  have axs : tax τm (2 * t + w) = (List.range n).map (τm.2.2.2 11 (2 * t + w)) := by unfold tax; rw [v10s, nI_clamp (by omega)]
  have axo : ∀ a, a ≠ 2 * t + w → tax τm a = tax τ a := fun a ha => by
    unfold tax
    rw [v10 a ha, show τm.2.2.2 11 a = τ.2.2.2 11 a from funext fun j => hD 11 a j (by decide) (by omega)]
  obtain ⟨an, han⟩ : ∃ an, an = (List.range n).map (τm.2.2.2 11 (2 * t + w)) := ⟨_, rfl⟩
  have alen : an.length = n := by rw [han]; simp
  have eL : tly τm t = some (s_ax L w an) := by
    rw [han]
    have hL' := hL
    unfold tly at hL' ⊢
    rw [if_neg h6] at hL'
    rw [hI 6 (by decide) (by decide), hI 7 (by decide) (by decide), hI 8 (by decide) (by decide), hI 9 (by decide) (by decide), if_neg h6]
    cases hL'
    unfold s_ax
    by_cases h0 : w = 0
    · subst h0
      rw [if_pos rfl, show tax τm (2 * t) = tax τm (2 * t + 0) from rfl, axs, axo (2 * t + 1) (by omega)]
    · have h1 : w = 1 := by omega
      subst h1
      have h9 : τ.2.2.1 9 0 t ≠ -1 := fun q => hw1 rfl (by simp only [q, if_true])
      rw [axs, axo (2 * t) (by omega)]
      simp only [if_neg h9, if_neg h0]
  have anB : ∀ v ∈ an, s_B v := by
    intro v hv
    rw [han] at hv
    obtain ⟨j, hj, e⟩ := List.mem_map.mp hv
    rw [← e]
    exact hAx j (by have := List.mem_range.mp hj; omega)
  have oldB := hO.2.2.2.2.2.1 t ht L hL
  have hmy : s_my L ≤ 8 := by rcases hot with ⟨_, _, _, q⟩ | ⟨_, _, _, q1, q2, _⟩ <;> omega
  have nc64 : s_nc (s_ax L w an) ≤ 64 := by
    unfold s_nc s_my s_ax
    by_cases h0 : w = 0
    · rw [if_pos h0]
      simp only [alen]
      have : (if L.2.2.1 = none then 1 else L.2.2.2.2.length) ≤ 8 := hmy
      exact Nat.le_trans (Nat.mul_le_mul hn.2 this) (by decide)
    · rw [if_neg h0]
      simp only [alen]
      have : (if L.2.2.1 = none then 1 else n) ≤ 8 := by split <;> omega
      exact Nat.le_trans (Nat.mul_le_mul hn8 this) (by decide)
  have l1 : (s_ax L w an).1 = L.1 := by unfold s_ax; split <;> rfl
  have l2 : (s_ax L w an).2.1 = L.2.1 := by unfold s_ax; split <;> rfl
  have l3 : (s_ax L w an).2.2.1 = L.2.2.1 := by unfold s_ax; split <;> rfl
  rw [← han]
  have key := tSh_ly (τm := τm) (t := t) ⟨⟨rk, hO⟩, hnb, hx⟩ ht (fun k i j hk a b => by
      by_cases h : k = 10
      · subst h
        by_cases hi : i = 0
        · subst hi; exact v10 j (by omega)
        · exact v10o i j hi
      · rw [hI k hk h]) (fun k i j hk a => hD k i j hk (by omega)) (by rw [hI 6 (by decide) (by decide)]; exact hO.2.2.2.2.2.2.2.2 t ht) (fun _ => by
      rw [hI 7 (by decide) (by decide), hI 8 (by decide) (by decide), hI 9 (by decide) (by decide)]
      by_cases h0 : w = 0
      · subst h0
        refine ⟨L.1, L.2.1, n, lo, la, hn.1, hn.2, e7, e8, v10s, ?_⟩
        rcases hot with ⟨h9, _⟩ | ⟨b, hb, hba, my1, my8, h9, n9, e11, s9, eb⟩
        · exact Or.inl h9
        · exact Or.inr ⟨b, _, hb, hba, my1, my8, h9, by rw [v10 _ (by omega)]; exact e11⟩
      · have h1 : w = 1 := by omega
        subst h1
        refine ⟨L.1, L.2.1, L.2.2.2.1.length, lo, la, hn1, hn8, e7, e8, by rw [v10 _ (by omega)]; exact e10, ?_⟩
        rcases hot with ⟨h9, n9, _⟩ | ⟨b, hb, hba, my1, my8, h9, n9, e11, s9, eb⟩
        · exact absurd n9 (hw1 rfl)
        · exact Or.inr ⟨b, n, hb, hba, hn.1, hn.2, h9, v10s⟩) (by
      refine ⟨rk, hO.2.2.1.1, hO.2.2.1.2.1, fun u hu L' hL' => ?_⟩
      rw [eL] at hL'
      by_cases e : u = t
      · subst e
        rw [s_up_s] at hL'
        cases hL'
        rw [l1]
        exact hO.2.2.1.2.2 u hu L hL
      · rw [s_up_o e] at hL'
        exact hO.2.2.1.2.2 u hu L' hL') (fun L' hL' => by
      rw [eL] at hL'
      cases hL'
      refine ⟨?_, ?_, nc64⟩
      · unfold s_ax
        split
        · exact anB
        · exact oldB.1
      · unfold s_ax
        split
        · exact oldB.2.1
        · exact anB) (fun a j ha hj => by
      by_cases e : a = 2 * t + w
      · subst e; exact hAx j hj
      · rw [hD 11 a j (by decide) (by omega)]; exact hnb.2 a j (by omega) hj) (fun L' hL' => by
      rw [eL] at hL'
      cases hL'
      rw [l2, l3]
      exact hx.2.2.2.1 t ht L hL)
  rw [eL] at key
  exact ⟨key.1, key.2.1, key.2.2.1, key.2.2.2 hN⟩
end UK
