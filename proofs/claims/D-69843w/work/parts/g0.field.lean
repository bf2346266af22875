/-! ===== LAYER 2: the field of sixteen ===== -/
section Field
variable {wh wm : rhW}
def gx2 (x : Int) : Int := if 15 < rh_shl x 1 then rh_xor (rh_shl x 1) 19 else rh_shl x 1
theorem gx2_e (x : Int) : rh_if (15 < rh_shl x 1) (rh_xor (rh_shl x 1) 19) (rh_shl x 1) = gx2 x := by
  unfold gx2
  by_cases q : 15 < rh_shl x 1
  · rw [rh_if_t q, if_pos q]
  · rw [rh_if_f q, if_neg q]
/-- a product, as the model makes it -/
def gml (b : Int) : Nat → Int → Int → Int
  | 0, v, _ => v
  | u + 1, v, x => gml b u (if rh_and (rh_shr b (4 - ((u + 1 : Nat) : Int))) 1 = 1 then rh_xor v x else v) (gx2 x)
def gfm (a b : Int) : Int := gml b 4 0 a
theorem c_timesM (hm : rh_ms wm) (a b : Int) (B : rhM) : eC wm YX32_timesField 0 [(0, a), (0, b)] B (gfm a b) B := by
  refine eC.of1 (rC1.of (by decide) (LE0 rfl) ?_)
  have key : ∀ (u : Nat) (v x : Int), u ≤ 4 → rh1 wm YX32_timesField 0 7 [(1, 0, b), (2, 0, v), (3, 0, x), (4, 0, 4 - (u : Int))] [] B (fun r M' => r = gml b u v x ∧ M' = B) := by
    intro u
    induction u with
    | zero =>
      intro v x hu
      refine rh1.of (rX32_timesField_7 hm _ _ _ _ _ ?_)
      exact ⟨fun z => by omega, fun _ => ⟨rfl, rfl⟩⟩
    | succ u ih =>
      intro v x hu
      refine rh1.of (rX32_timesField_7 hm _ _ _ _ _ ?_)
      rw [gx2_e]
      refine ⟨fun _ => ?_, fun z => by omega⟩
      intro v' hv'
      have e : v' = if rh_and (rh_shr b (4 - ((u + 1 : Nat) : Int))) 1 = 1 then rh_xor v x else v := by
        rw [hv']
        by_cases q : rh_and (rh_shr b (4 - ((u + 1 : Nat) : Int))) 1 = 1
        · rw [rh_if_t q, if_pos q]
        · rw [rh_if_f q, if_neg q]
      intro x' hx'
      rw [hx', e]
      refine ⟨⟨by omega, by omega⟩, ?_⟩
      rw [show 4 - ((u + 1 : Nat) : Int) + 1 = 4 - (u : Int) by omega]
      exact ih _ _ (by omega)
  refine rh1.of (rX32_timesField_0 hm _ _ _ ?_)
  exact key 4 0 a (by decide)
def gpw : Nat → Int
  | 0 => 1
  | k + 1 => gx2 (gpw k)
theorem c_powerOf (hm : rh_ms wm) {x : Int} (hx : 0 ≤ x) (B : rhM) : eC wm YX32_powerOf 0 [(0, x)] B (gpw (x % 15).toNat) B := by
  refine eC.of1 (rC1.of (by decide) (LE0 rfl) ?_)
  have x1 := Int.emod_nonneg x (show (15 : Int) ≠ 0 by decide)
  have key : ∀ (u k : Nat), (k : Int) + u = x % 15 → rh1 wm YX32_powerOf 0 4 [(0, 0, x), (1, 0, gpw k), (2, 0, (k : Int))] [] B (fun r M' => r = gpw (x % 15).toNat ∧ M' = B) := by
    intro u
    induction u with
    | zero =>
      intro k hk
      refine rh1.of (rX32_powerOf_4 hm _ _ _ _ ?_)
      refine ⟨⟨by omega, by omega⟩, fun z => by omega, fun _ => ⟨?_, rfl⟩⟩
      rw [show (x % 15).toNat = k by omega]
    | succ u ih =>
      intro k hk
      refine rh1.of (rX32_powerOf_4 hm _ _ _ _ ?_)
      rw [gx2_e]
      refine ⟨⟨by omega, by omega⟩, fun _ => ?_, fun z => by omega⟩
      (intro zq hzq; replace hzq := hzq.symm; subst hzq)
      refine ⟨⟨by omega, by omega⟩, ?_⟩
      rw [show (k : Int) + 1 = ((k + 1 : Nat) : Int) by omega]
      exact ih (k + 1) (by omega)
  refine rh1.of (rX32_powerOf_0 hm _ _ ?_)
  exact key (x % 15).toNat 0 (by omega)
/-- what holds of all of sixteen numbers -/
theorem g16 {p : Int → Bool} (h : (List.range 16).all (fun v => p ((v : Nat) : Int)) = true) {a : Int} (ha : 0 ≤ a ∧ a < 16) : p a = true := by
  have h2 := List.all_eq_true.mp h a.toNat (List.mem_range.mpr (by omega))
  rwa [show ((a.toNat : Nat) : Int) = a by omega] at h2
theorem g16b {p : Int → Int → Bool} (h : (List.range 16).all (fun v => (List.range 16).all (fun u => p ((v : Nat) : Int) ((u : Nat) : Int))) = true) {a b : Int} (ha : 0 ≤ a ∧ a < 16) (hb : 0 ≤ b ∧ b < 16) : p a b = true := by
  have h2 := List.all_eq_true.mp h a.toNat (List.mem_range.mpr (by omega))
  have h3 := List.all_eq_true.mp h2 b.toNat (List.mem_range.mpr (by omega))
  rwa [show ((a.toNat : Nat) : Int) = a by omega, show ((b.toNat : Nat) : Int) = b by omega] at h3
theorem g16c {p : Int → Int → Int → Bool} (h : (List.range 16).all (fun v => (List.range 16).all (fun u => (List.range 16).all (fun t => p ((v : Nat) : Int) ((u : Nat) : Int) ((t : Nat) : Int)))) = true) {a b c : Int} (ha : 0 ≤ a ∧ a < 16) (hb : 0 ≤ b ∧ b < 16) (hc : 0 ≤ c ∧ c < 16) : p a b c = true := by
  have h2 := List.all_eq_true.mp h a.toNat (List.mem_range.mpr (by omega))
  have h3 := List.all_eq_true.mp h2 b.toNat (List.mem_range.mpr (by omega))
  have h4 := List.all_eq_true.mp h3 c.toNat (List.mem_range.mpr (by omega))
  rwa [show ((a.toNat : Nat) : Int) = a by omega, show ((b.toNat : Nat) : Int) = b by omega, show ((c.toNat : Nat) : Int) = c by omega] at h4
theorem gfm_r {a b : Int} (ha : 0 ≤ a ∧ a < 16) (hb : 0 ≤ b ∧ b < 16) : 0 ≤ gfm a b ∧ gfm a b < 16 := of_decide_eq_true (g16b (p := fun a b => decide (0 ≤ gfm a b ∧ gfm a b < 16)) (by decide +kernel) ha hb)
theorem gfm_c {a b : Int} (ha : 0 ≤ a ∧ a < 16) (hb : 0 ≤ b ∧ b < 16) : gfm a b = gfm b a := of_decide_eq_true (g16b (p := fun a b => decide (gfm a b = gfm b a)) (by decide +kernel) ha hb)
theorem gfm_0 {a : Int} (ha : 0 ≤ a ∧ a < 16) : gfm 0 a = 0 ∧ gfm a 0 = 0 ∧ gfm 1 a = a ∧ gfm a 1 = a := of_decide_eq_true (g16 (p := fun a => decide (gfm 0 a = 0 ∧ gfm a 0 = 0 ∧ gfm 1 a = a ∧ gfm a 1 = a)) (by decide +kernel) ha)
theorem gfm_z {a b : Int} (ha : 0 ≤ a ∧ a < 16) (hb : 0 ≤ b ∧ b < 16) : gfm a b = 0 ↔ a = 0 ∨ b = 0 := of_decide_eq_true (g16b (p := fun a b => decide (gfm a b = 0 ↔ a = 0 ∨ b = 0)) (by decide +kernel) ha hb)
theorem xor_r {a b : Int} (ha : 0 ≤ a ∧ a < 16) (hb : 0 ≤ b ∧ b < 16) : 0 ≤ rh_xor a b ∧ rh_xor a b < 16 := of_decide_eq_true (g16b (p := fun a b => decide (0 ≤ rh_xor a b ∧ rh_xor a b < 16)) (by decide +kernel) ha hb)
theorem xor_c {a b : Int} (ha : 0 ≤ a ∧ a < 16) (hb : 0 ≤ b ∧ b < 16) : rh_xor a b = rh_xor b a := of_decide_eq_true (g16b (p := fun a b => decide (rh_xor a b = rh_xor b a)) (by decide +kernel) ha hb)
theorem xor_0 {a : Int} (ha : 0 ≤ a ∧ a < 16) : rh_xor 0 a = a ∧ rh_xor a 0 = a ∧ rh_xor a a = 0 := of_decide_eq_true (g16 (p := fun a => decide (rh_xor 0 a = a ∧ rh_xor a 0 = a ∧ rh_xor a a = 0)) (by decide +kernel) ha)
theorem xor_as {a b c : Int} (ha : 0 ≤ a ∧ a < 16) (hb : 0 ≤ b ∧ b < 16) (hc : 0 ≤ c ∧ c < 16) : rh_xor (rh_xor a b) c = rh_xor a (rh_xor b c) := of_decide_eq_true (g16c (p := fun a b c => decide (rh_xor (rh_xor a b) c = rh_xor a (rh_xor b c))) (by decide +kernel) ha hb hc)
theorem gfm_as {a b c : Int} (ha : 0 ≤ a ∧ a < 16) (hb : 0 ≤ b ∧ b < 16) (hc : 0 ≤ c ∧ c < 16) : gfm (gfm a b) c = gfm a (gfm b c) := of_decide_eq_true (g16c (p := fun a b c => decide (gfm (gfm a b) c = gfm a (gfm b c))) (by decide +kernel) ha hb hc)
theorem gfm_x {a b c : Int} (ha : 0 ≤ a ∧ a < 16) (hb : 0 ≤ b ∧ b < 16) (hc : 0 ≤ c ∧ c < 16) : gfm a (rh_xor b c) = rh_xor (gfm a b) (gfm a c) := of_decide_eq_true (g16c (p := fun a b c => decide (gfm a (rh_xor b c) = rh_xor (gfm a b) (gfm a c))) (by decide +kernel) ha hb hc)
/-- the tables of the house -/
def pwt (k : Int) : Int := ([1, 2, 4, 8, 3, 6, 12, 11, 5, 10, 7, 14, 15, 13, 9, 1, 2, 4, 8, 3, 6, 12, 11, 5, 10, 7, 14, 15, 13, 9] : List Int).getD k.toNat 0
def lgt (a : Int) : Int := ([0, 0, 1, 4, 2, 8, 5, 10, 3, 14, 9, 7, 6, 13, 11, 12] : List Int).getD a.toNat 0
def Rmn (A : rhM) : Prop := (∀ k, 0 ≤ k → k < 30 → A 214 k = pwt k) ∧ ∀ a, 1 ≤ a → a < 16 → A 215 a = lgt a
theorem lgt_r {a : Int} (ha : 0 ≤ a ∧ a < 16) : 0 ≤ lgt a ∧ lgt a ≤ 14 := of_decide_eq_true (g16 (p := fun a => decide (0 ≤ lgt a ∧ lgt a ≤ 14)) (by decide +kernel) ha)
theorem pwt_p {k : Nat} (hk : k < 15) : pwt k = gpw k ∧ pwt (k + 15) = gpw k ∧ 1 ≤ gpw k ∧ gpw k < 16 := by
  have h : (List.range 15).all (fun k => decide (pwt ((k : Nat) : Int) = gpw k ∧ pwt (((k : Nat) : Int) + 15) = gpw k ∧ 1 ≤ gpw k ∧ gpw k < 16)) = true := by decide +kernel
  exact of_decide_eq_true (List.all_eq_true.mp h k (List.mem_range.mpr hk))
/-- the inverse -/
def giv (b : Int) : Int := pwt (15 - lgt b)
theorem giv_e {b : Int} (hb : 1 ≤ b ∧ b < 16) : (1 ≤ giv b ∧ giv b < 16) ∧ gfm b (giv b) = 1 ∧ gfm (giv b) b = 1 ∧ ∀ v, 1 ≤ v → v < giv b → gfm b v ≠ 1 := by
  have h := of_decide_eq_true (g16 (p := fun b => decide (1 ≤ b → ((1 ≤ giv b ∧ giv b < 16) ∧ gfm b (giv b) = 1 ∧ gfm (giv b) b = 1))) (by decide +kernel) (show 0 ≤ b ∧ b < 16 by omega)) hb.1
  refine ⟨h.1, h.2.1, h.2.2, fun v v0 v1 e => ?_⟩
  have u := of_decide_eq_true (g16b (p := fun b v => decide (1 ≤ b → gfm b v = 1 → v = giv b)) (by decide +kernel) (show 0 ≤ b ∧ b < 16 by omega) (show 0 ≤ v ∧ v < 16 by omega)) hb.1 e
  omega
theorem c_inverse (hm : rh_ms wm) {b : Int} (hb : 1 ≤ b ∧ b < 16) (B : rhM) : eC wm YX32_inverse 1 [(0, b)] B (giv b) B := by
  obtain ⟨g1, g2, g3, g4⟩ := giv_e hb
  refine eC.of1 (rC1.of (by decide) (LE0 rfl) ?_)
  have key : ∀ (u : Nat) (v : Int), v + u = giv b → 1 ≤ v → rh1 wm YX32_inverse 1 2 [(0, 0, b), (1, 0, v)] [] B (fun r M' => r = giv b ∧ M' = B) := by
    intro u
    induction u with
    | zero =>
      intro v hv v0
      have e : v = giv b := by omega
      refine rh1.of (rX32_inverse_2 hm _ _ _ ?_)
      refine rh1.s (vX32_inverse_4 (c_timesM hm b v B) (LE0 rfl)) ?_
      refine rh1.of (rX32_inverse_7 hm _ _ _ _ ?_)
      rw [e, g2]
      exact ⟨fun z => absurd rfl z, fun _ => ⟨rfl, rfl⟩⟩
    | succ u ih =>
      intro v hv v0
      refine rh1.of (rX32_inverse_2 hm _ _ _ ?_)
      refine rh1.s (vX32_inverse_4 (c_timesM hm b v B) (LE0 rfl)) ?_
      refine rh1.of (rX32_inverse_7 hm _ _ _ _ ?_)
      exact ⟨fun _ => ⟨⟨by omega, by omega⟩, ih (v + 1) (by omega) (by omega)⟩, fun z => absurd (g4 v v0 (by omega)) z⟩
  refine rh1.of (rX32_inverse_0 hm _ _ ?_)
  exact key (giv b - 1).toNat 1 (by omega) (by decide)
theorem tm_e {A : rhM} (R : Rmn A) {a b : Int} (ha : 0 ≤ a ∧ a < 16) (hb : 0 ≤ b ∧ b < 16) : rh_if (a = 0 ∨ b = 0) (0 : Int) (A 214 (A 215 a + A 215 b)) = gfm a b ∧ (¬ (a = 0 ∨ b = 0) → 0 ≤ A 215 a + A 215 b ∧ A 215 a + A 215 b < 30) := by
  by_cases q : a = 0 ∨ b = 0
  · rw [rh_if_t q]
    exact ⟨((gfm_z ha hb).mpr q).symm, fun z => absurd q z⟩
  · have la := lgt_r ha
    have lb := lgt_r hb
    rw [rh_if_f q, R.2 a (by omega) (by omega), R.2 b (by omega) (by omega), R.1 _ (by omega) (by omega)]
    refine ⟨?_, fun _ => ⟨by omega, by omega⟩⟩
    have h := of_decide_eq_true (g16b (p := fun a b => decide (¬ (a = 0 ∨ b = 0) → pwt (lgt a + lgt b) = gfm a b)) (by decide +kernel) ha hb)
    exact h q
theorem by_e2 {A : rhM} (R : Rmn A) {a b : Int} (ha : 0 ≤ a ∧ a < 16) (hb : 1 ≤ b ∧ b < 16) : rh_if (a = 0) (0 : Int) (A 214 (A 215 a + 15 - A 215 b)) = gfm a (giv b) ∧ (a ≠ 0 → 0 ≤ A 215 a + 15 - A 215 b ∧ A 215 a + 15 - A 215 b < 30) := by
  have hg := (giv_e hb).1
  by_cases q : a = 0
  · rw [rh_if_t q, q]
    exact ⟨((gfm_0 (a := giv b) ⟨by omega, by omega⟩).1).symm, fun z => absurd rfl z⟩
  · have la := lgt_r ha
    have lb := lgt_r (a := b) ⟨by omega, by omega⟩
    rw [rh_if_f q, R.2 a (by omega) (by omega), R.2 b (by omega) (by omega), R.1 _ (by omega) (by omega)]
    refine ⟨?_, fun _ => ⟨by omega, by omega⟩⟩
    have h := of_decide_eq_true (g16b (p := fun a b => decide (a ≠ 0 → 1 ≤ b → pwt (lgt a + 15 - lgt b) = gfm a (giv b))) (by decide +kernel) ha (show 0 ≤ b ∧ b < 16 by omega))
    exact h q hb.1
theorem wt_e {A : rhM} (R : Rmn A) {x : Int} (hx : 0 ≤ x) : A 214 (x % 15) = gpw (x % 15).toNat ∧ 1 ≤ gpw (x % 15).toNat ∧ gpw (x % 15).toNat < 16 := by
  have x1 := Int.emod_nonneg x (show (15 : Int) ≠ 0 by decide)
  have x2 := Int.emod_lt_of_pos x (show (0 : Int) < 15 by decide)
  have p := pwt_p (k := (x % 15).toNat) (by omega)
  rw [show (((x % 15).toNat : Nat) : Int) = x % 15 by omega] at p
  exact ⟨(R.1 _ x1 (by omega)).trans p.1, p.2.2⟩
end Field
