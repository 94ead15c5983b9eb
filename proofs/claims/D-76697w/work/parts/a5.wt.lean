set_option maxRecDepth 100000
/-! what a node is worth, by its height -/
section WT
variable {l : Launch} {g : zG} {x0 : Nat} {P : cP} {hp : zHp} {nx : Nat} {full : List sM} {J : List sM → cS → Prop} {cv : Nat → sT} {tv : Nat → Nat → UInt64 × Int32} {c0 D : Nat}
/-- behind a node's worth -/
def cPW (g : zG) (x0 : Nat) (P : cP) (hp : zHp) (nx : Nat) (J : List sM → cS → Prop) (cv : Nat → sT) (tv : Nat → Nat → UInt64 × Int32) (c0 : Nat) (pre ms : List sM) (σ : cS) : UInt64 → zHp → Nat → Prop := fun v hp' nx' => ∃ (r : sT) (σ' : cS), (∀ st, s_run cv tv c0 ms st = r :: st) ∧ J (pre ++ ms) (cNo σ') ∧ cRs σ r v σ' ∧ hp' = cput g x0 P σ' hp ∧ nx = nx'
/-- what worth rests on -/
def cHy (l : Launch) (g : zG) (x0 : Nat) (P : cP) (hp : zHp) (nx : Nat) (full : List sM) (J : List sM → cS → Prop) (cv : Nat → sT) (tv : Nat → Nat → UInt64 × Int32) (c0 D : Nat) : Prop :=
  (∀ pre A, J pre A → A.1 4 = nI c0) ∧
  (∀ pre m post A, full = pre ++ m :: post → 24 ≤ m.1 → m.1 < 300 → J pre A → J (pre ++ [m]) A) ∧
  (∀ pre m post σ d K, D ≤ d → full = pre ++ m :: post → m.1 < 24 → J pre (cNo σ) → (∀ v σ', J (pre ++ [m]) (cNo σ') → cRs σ (cv m.1) v σ' → K v (cput g x0 P σ' hp) nx) → zMt l g yX0_tell cX0_tell 5 (some .double) d 0 0 [.ref x0, .int (nI m.1)] (cput g x0 P σ hp) nx (zQd g K)) ∧
  (∀ pre m post σ d a ci K, D ≤ d → full = pre ++ m :: post → 18 ≤ ci → ci ≤ 22 → m.1 % 10 < 6 → m.1 = 300 + 10 * (ci - 18) + m.1 % 10 → hp a = some (.inr (ci, cAk ci x0 (m.1 % 10))) → J pre (cNo σ) → (∀ v σ', J (pre ++ [m]) (cNo σ') → cRs σ ((tv (m.1 % 10) (ci - 18)).1, (tv (m.1 % 10) (ci - 18)).2, nI c0) v σ' → K v (cput g x0 P σ' hp) nx) → zMt l g yX18_worth cX18_worth 2 (some .double) d 0 0 [.ref a] (cput g x0 P σ hp) nx (zQd g K)) ∧
  (∀ m ∈ full, s_B m.2)
theorem s_run_one {m : sM} {st : List sT} : s_run cv tv c0 [m] st = s_act cv tv c0 m st := rfl
theorem s_act_op {m : Nat} {y : UInt64} {a b : sT} {st : List sT} (h1 : 201 ≤ m) (h2 : m ≤ 209) : s_act cv tv c0 (m, y) (b :: a :: st) = s_two c0 (m - 200) a b :: st := by
  unfold s_act
  rw [if_neg (show ¬ m < 24 by omega), if_neg (show ¬ m < 200 by omega), if_neg (show ¬ 300 ≤ m by omega), if_neg (show ¬ m = 200 by omega), if_neg (show ¬ m = 210 by omega)]
/-- any class of node -/
abbrev cNs14 : List Nat := [14, 16, 17, 18, 19, 20, 21, 22, 23, 24, 25, 26, 27, 29]
theorem cDi_u {d a ci : Nat} {hp1 : zHp} {PP : UInt64 → zHp → Nat → Prop} (h : cDi l g d a ci hp1 nx PP) : cDi l g d a ci hp1 nx PP := h
theorem cRs_pick {σ0 σ1 σ2 σ3 : cS} {rx ry rz : sT} {w x y : UInt64} (h1 : cRs σ0 rx w σ1) (h2 : cRs σ1 ry x σ2) (h3 : cRs (cuI (cuI σ2 2 (σ1.1 2)) 3 (σ1.1 3)) rz y σ3) :
    ((σ1.1 2 ≠ 0 ∨ ¬ s_eq w 0) → cRs σ0 (s_pick rx ry rz) x (cuI (cuI σ3 2 (if σ1.1 2 = 0 then σ2.1 2 else σ1.1 2)) 3 (if σ1.1 2 = 0 then σ2.1 3 else σ1.1 3))) ∧ (¬ (σ1.1 2 ≠ 0 ∨ ¬ s_eq w 0) → cRs σ0 (s_pick rx ry rz) y σ3) := by
  have k2 : ∀ {τ : cS} {a b : Int32}, (cuI (cuI τ 2 a) 3 b).1 2 = a := fun {τ a b} => by rw [cI_o (by decide), cI_s]
  have k3 : ∀ {τ : cS} {a b : Int32}, (cuI (cuI τ 2 a) 3 b).1 3 = b := fun {τ a b} => by rw [cI_s]
  refine ⟨fun hc => ⟨h2.1, fun q => ?_, fun q => ?_⟩, fun hc => ⟨h3.1, fun q => ?_, fun q => ?_⟩⟩
  · have a := h1.2.1 q
    have e : ¬ σ1.1 2 = 0 := by rw [a.1]; exact q
    rw [k2, k3, if_neg e, if_neg e]
    exact a
  · by_cases ex : rx.2.1 = 0
    · obtain ⟨rfl, a2, a3⟩ := (h1.2.2 q).1 ex
      have hz : ¬ s_eq rx.1 0 := hc.resolve_left (fun z => z a2)
      have e0 : s_pick rx ry rz = ry := by unfold s_pick; rw [if_neg (fun z => z ex), s_if_n hz]
      rw [e0, k2, k3, if_pos a2, if_pos a2]
      have b := h2.2.2 a2
      exact ⟨fun z => ⟨(b.1 z).1, (b.1 z).2.1, (b.1 z).2.2.trans a3⟩, b.2⟩
    · have a := (h1.2.2 q).2 ex
      have e : ¬ σ1.1 2 = 0 := by rw [a.1]; exact ex
      have e0 : s_pick rx ry rz = rx := by unfold s_pick; rw [if_pos ex]
      rw [e0, k2, k3, if_neg e, if_neg e]
      exact ⟨fun z => absurd z ex, fun _ => a⟩
  · exact absurd (Or.inl (by rw [(h1.2.1 q).1]; exact q)) hc
  · have e1 : σ1.1 2 = 0 := Classical.not_not.mp (fun z => hc (Or.inl z))
    have e2 : s_eq w 0 := Classical.not_not.mp (fun z => hc (Or.inr z))
    have ex : rx.2.1 = 0 := by
      by_cases ex : rx.2.1 = 0
      · exact ex
      · exact absurd (((h1.2.2 q).2 ex).1.symm.trans e1) ex
    obtain ⟨rfl, a2, a3⟩ := (h1.2.2 q).1 ex
    have e0 : s_pick rx ry rz = rz := by unfold s_pick; rw [if_neg (fun z => z ex), s_if_p e2]
    rw [e0]
    have b := h3.2.2 (by rw [k2]; exact e1)
    rw [k3] at b
    exact ⟨fun z => ⟨(b.1 z).1, (b.1 z).2.1, (b.1 z).2.2.trans a3⟩, b.2⟩
/-- worth, one node -/
def cWn (l : Launch) (g : zG) (x0 : Nat) (P : cP) (hp : zHp) (nx : Nat) (full : List sM) (J : List sM → cS → Prop) (cv : Nat → sT) (tv : Nat → Nat → UInt64 × Int32) (c0 : Nat) (d a : Nat) (ms : List sM) : Prop := ∀ pre post σ, full = pre ++ (ms ++ post) → J pre (cNo σ) → ∃ ci fs, hp a = some (.inr (ci, fs)) ∧ ci ∈ cNs14 ∧ cDi l g d a ci (cput g x0 P σ hp) nx (cPW g x0 P hp nx J cv tv c0 pre ms σ)
/-- chains -/
theorem c_chain (hW : cW g x0 P hp) (hH : cHy l g x0 P hp nx full J cv tv c0 D) {d n a ci : Nat} {fs : List Value} {b : Nat} {h : Option Nat} {ps qs pre post : List sM} {tm : Bool} {σ : cS} (hd : D ≤ d) (hd6 : 6 ≤ d)
    (ha : hp a = some (.inr (ci, fs))) (hci : (ci = 26 ∧ tm = false) ∨ (ci = 27 ∧ tm = true)) (f1 : fs[1]? = some (.ref b)) (f2 : fs[2]? = some (va_rf h)) (f4 : fs[4]? = some (.ref x0)) (f5 : tm = true → fs[5]? = some (.ref x0))
    (hb : cWn l g x0 P hp nx full J cv tv c0 d b ps) (hR : ∀ e es, cNd hp x0 n e es → cWn l g x0 P hp nx full J cv tv c0 d e es) (hL : cLk (cNd hp x0 n) hp tm 96 h qs) (hf : full = pre ++ ((ps ++ qs) ++ post)) (hJ : J pre (cNo σ)) : zMt l g yX26_worth cX26_worth 4 (some .double) (d + 1) 0 0 [.ref a] (cput g x0 P σ hp) nx (zQd g (cPW g x0 P hp nx J cv tv c0 pre (ps ++ qs) σ)) := by
  obtain ⟨hJt, hJo, -, -, hB⟩ := hH
  have hS : ci ∈ [26, 27] := by rcases hci with e | e <;> (rw [e.1]; decide)
  apply met_X26_worth
  unfold wp_X26_worth
  rw [ch_R hW ha (show fs[1]? = some (va_rf (some b)) from f1) hS]
  obtain ⟨ci1, fs1, g1, g2, g3⟩ := hb pre (qs ++ post) σ (by rw [hf]; simp only [List.append_assoc]) hJ
  rw [ch_o hW g1 g2]
  refine ⟨_, ?_, g3⟩
  rintro x hp1 nx1 ⟨r1, σ1, hr1, hJ1, hs1, rfl, rfl⟩
  rw [ch_R hW ha f2 hS]
  refine ⟨fun k x r hp1 nx1 => ∃ σ1 q1 q2 ra, cLk (cNd hp x0 n) hp tm k r q2 ∧ qs = q1 ++ q2 ∧ (∀ st, s_run cv tv c0 (ps ++ q1) st = ra :: st) ∧ J (pre ++ (ps ++ q1)) (cNo σ1) ∧ cRs σ ra x σ1 ∧ hp1 = cput g x0 P σ1 hp ∧ nx = nx1, ⟨96, σ1, [], qs, r1, hL, rfl, by simpa using hr1, by simpa using hJ1, hs1, rfl, rfl⟩, ?_⟩
  rintro k x r hp1 nx1 ⟨σ1, q1, q2, ra, hL1, hq, hr, hJ2, hs, rfl, rfl⟩
  refine ⟨fun e => ?_, fun e => ?_⟩
  · have e2 : q2 = [] := by
      cases k with
      | zero => exact hL1.2
      | succ k =>
        rcases hL1 with z | ⟨a', sg, b', r2, m, ps', rest, z, -⟩
        · exact z.2
        · rw [e] at z; cases z
    rw [e2, List.append_nil] at hq
    subst hq
    exact ⟨ra, σ1, hr, hJ2, hs, rfl, rfl⟩
  · cases k with
    | zero => exact absurd hL1.1 e
    | succ k =>
      rcases hL1 with z | ⟨a', sg, b', r2, m, ps', rest, rfl, ha', hb', hm, hL2, hq2⟩
      · exact absurd z.1 e
      rw [ch_I hW ha' rfl (by decide), ch_R hW ha' (r := some b') rfl (by decide)]
      have hfull : full = (pre ++ (ps ++ q1)) ++ (ps' ++ ((m, 0) :: (rest ++ post))) := by rw [hf, hq, hq2]; simp only [List.append_assoc, List.cons_append]
      obtain ⟨ci1, fs1, g1, g2, g3⟩ := hR b' ps' hb' _ _ σ1 hfull hJ2
      rw [ch_o hW g1 g2]
      refine ⟨_, ?_, g3⟩
      rintro w hp1 nx1 ⟨rb, σ2, hrb, hJ3, hs2, rfl, rfl⟩
      have m1 : 201 ≤ m ∧ m ≤ 205 := by
        unfold cOp at hm
        split at hm
        · rcases hm with ⟨z, -⟩ | ⟨z, -⟩ | ⟨z, -⟩ <;> omega
        · rcases hm with ⟨z, -⟩ | ⟨z, -⟩ <;> omega
      have ht : σ2.1 4 = nI c0 := by have := hJt _ _ hJ3; rw [cNo_1 (by decide) (by decide)] at this; exact this
      have hJ4 : J (pre ++ (ps ++ (q1 ++ (ps' ++ [(m, 0)])))) (cNo σ2) := by
        have := hJo _ (m, 0) (rest ++ post) _ (by rw [hfull]; simp only [List.append_assoc]) (show 24 ≤ m by omega) (show m < 300 by omega) hJ3
        simpa only [List.append_assoc] using this
      have hrn : ∀ st, s_run cv tv c0 (ps ++ (q1 ++ (ps' ++ [(m, 0)]))) st = s_two c0 (m - 200) ra rb :: st := by
        intro st
        rw [show ps ++ (q1 ++ (ps' ++ [(m, 0)])) = (ps ++ q1) ++ (ps' ++ [(m, 0)]) by simp only [List.append_assoc], s_run_append, hr, s_run_append, hrb, s_run_one, s_act_op m1.1 (by omega)]
      have hend : ∀ v σ3, s_B v → cNo σ3 = cNo σ2 → ((m - 200 ≤ 4 ∧ ¬ ((m - 200 = 4 ∨ m - 200 = 5) ∧ s_eq w 0) ∧ v = cNr (s_op (m - 200) x w) ∧ σ3 = cNs σ2 (s_op (m - 200) x w)) ∨ ((m - 200 = 4 ∨ m - 200 = 5) ∧ s_eq w 0 ∧ σ3 = cFa σ2 2) ∨ (5 ≤ m - 200 ∧ ¬ ((m - 200 = 4 ∨ m - 200 = 5) ∧ s_eq w 0) ∧ v = s_op (m - 200) x w ∧ σ3 = σ2)) → zgR (cput g x0 P σ3 hp) (some a') [28] 2 fun r_34 => ∃ k_35, k_35 < k + 1 ∧ ∃ σ1 q1 q2 ra, cLk (cNd hp x0 n) hp tm k_35 r_34 q2 ∧ qs = q1 ++ q2 ∧ (∀ st, s_run cv tv c0 (ps ++ q1) st = ra :: st) ∧ J (pre ++ (ps ++ q1)) (cNo σ1) ∧ cRs σ ra v σ1 ∧ cput g x0 P σ3 hp = cput g x0 P σ1 hp ∧ nx = nx := by
        intro v σ3 hv hn hA
        rw [ch_R hW ha' (r := r2) rfl (by decide)]
        exact ⟨k, by omega, σ3, q1 ++ (ps' ++ [(m, 0)]), rest, s_two c0 (m - 200) ra rb, hL2, by rw [hq, hq2]; simp only [List.append_assoc, List.cons_append, List.nil_append], hrn, by rw [hn]; exact hJ4, cRs_two hs hs2 ht hv hA, rfl, rfl⟩
      rw [ch_o hW ha hS]
      refine ⟨fun v hp1 nx1 => ∃ σ3, hp1 = cput g x0 P σ3 hp ∧ nx = nx1 ∧ s_B v ∧ cNo σ3 = cNo σ2 ∧ ((m - 200 ≤ 4 ∧ ¬ ((m - 200 = 4 ∨ m - 200 = 5) ∧ s_eq w 0) ∧ v = cNr (s_op (m - 200) x w) ∧ σ3 = cNs σ2 (s_op (m - 200) x w)) ∨ ((m - 200 = 4 ∨ m - 200 = 5) ∧ s_eq w 0 ∧ σ3 = cFa σ2 2) ∨ (5 ≤ m - 200 ∧ ¬ ((m - 200 = 4 ∨ m - 200 = 5) ∧ s_eq w 0) ∧ v = s_op (m - 200) x w ∧ σ3 = σ2)), ?_, fun e6 => ?_, fun e7 => ?_⟩
      · rintro v hp1 nx1 ⟨σ3, rfl, rfl, hv, hn, hA⟩
        exact hend v σ3 hv hn hA
      · have htm : tm = false := by rcases hci with z | z; exact z.2; omega
        subst htm
        subst e6
        have hop : m - 200 = (if sg = 43 then 1 else 2) ∧ m ≤ 202 := by
          unfold cOp at hm
          rw [if_neg (by decide)] at hm
          rcases hm with ⟨z1, z2⟩ | ⟨z1, z2⟩
          · rw [if_pos z2]; omega
          · rw [if_neg (by rw [z2]; decide)]; omega
        refine c_joinS hW ha (Or.inl rfl) f4 (by omega) hs.1 hs2.1 ?_
        rw [← hop.1]
        have hnn : vf_n64 (s_op (m - 200) x w) := by
          have : m = 201 ∨ m = 202 := by omega
          rcases this with rfl | rfl
          · exact fb_add hs.1.f hs2.1.f
          · exact fb_sub hs.1.f hs2.1.f
        exact ⟨_, rfl, rfl, c_nrB hnn, cNo_ns, Or.inl ⟨by omega, fun z => by omega, rfl, rfl⟩⟩
      · have htm : tm = true := by rcases hci with z | z; omega; exact z.2
        subst htm
        subst e7
        have m3 : m = 203 ∨ m = 204 ∨ m = 205 := by
          unfold cOp at hm
          rw [if_pos rfl] at hm
          rcases hm with ⟨z, -⟩ | ⟨z, -⟩ | ⟨z, -⟩ <;> omega
        refine c_joinT hW ha f4 (f5 rfl) hm (by omega) hs.1 hs2.1 (fun h1 h2 => ?_) (fun h1 => ?_) (fun h1 h2 => ?_)
        · have hnn : vf_n64 (s_op (m - 200) x w) := by
            rcases m3 with rfl | rfl | rfl
            · exact fb_mul hs.1.f hs2.1.f
            · exact fb_div hs.1.f hs2.1.f (fun z => h2 ⟨Or.inl rfl, z⟩)
            · exact absurd h1 (by decide)
          exact ⟨_, rfl, rfl, c_nrB hnn, cNo_ns, Or.inl ⟨by omega, fun z => h2 ⟨by omega, z.2⟩, rfl, rfl⟩⟩
        · exact ⟨_, rfl, rfl, fk_B0, cNo_fa, Or.inr (Or.inl ⟨by omega, h1.2, rfl⟩)⟩
        · subst h1
          exact ⟨_, rfl, rfl, fb_remB hs.1 hs2.1.f h2, rfl, Or.inr (Or.inr ⟨by omega, fun z => h2 z.2, rfl, rfl⟩)⟩
end WT
