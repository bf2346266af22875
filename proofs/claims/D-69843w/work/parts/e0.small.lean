/-! ===== LAYER 2: made, field, the store's rows ===== -/
section Small
variable {wh wm : rhW}
def Rmd (Mh Mm : rhM) : Prop := ∀ p, 0 ≤ p → p < 8 → Mh (251 + 39 * p) 16 = Mm 157 p ∧ (0 ≤ Mm 157 p ∧ Mm 157 p ≤ 250) ∧ ∀ i, 0 ≤ i → i < Mm 157 p → Mh (251 + 39 * p + 37) i = Mm 158 (250 * p + i) ∧ Mh (251 + 39 * p + 38) (4 * i) = Mm 159 (250 * p + i) ∧ Mh (251 + 39 * p + 38) (4 * i + 1) = Mm 160 (250 * p + i) ∧ Mh (251 + 39 * p + 38) (4 * i + 2) = Mm 161 (250 * p + i) ∧ Mh (251 + 39 * p + 38) (4 * i + 3) = Mm 162 (250 * p + i)
theorem Rpg.is {Mh Mm : rhM} (R : Rpg Mh Mm) (x1 : Int) : (((0 ≤ x1) ∧ (x1 ≤ 7)) ∧ (Mh (251 + 39 * x1) 3 ≠ 0)) ↔ (((0 ≤ x1) ∧ (x1 ≤ 7)) ∧ (0 < Mm 4 x1)) := by
  constructor
  · rintro ⟨h1, h2⟩
    exact ⟨h1, (R x1 (by omega) (by omega)).2.mp h2⟩
  · rintro ⟨h1, h2⟩
    exact ⟨h1, (R x1 (by omega) (by omega)).2.mpr h2⟩
theorem no4 {x : Int} (h0 : ¬ x = 0) (h1 : ¬ x = 1) (h2 : ¬ x = 2) (h3 : ¬ x = 3) (h : 0 ≤ x ∧ x ≤ 4) : x = 4 := by omega
theorem op_made (hh : rh_hs wh) (hm : rh_ms wm) {Mh Mm : rhM} (R : Rpg Mh Mm) (D : Rmd Mh Mm) (x1 x2 x3 : Int) : rC2 wh YX1_made 3 [(2, 0), (0, x1), (0, x2), (0, x3)] Mh wm YX32_made 3 [(2, 0), (0, x1), (0, x2), (0, x3)] Mm (fun r M' r2 M2' => r = r2 ∧ M' = Mh ∧ M2' = rh_set Mm 0 0 0) := by
  refine rC2.of (by decide) (LE0 rfl) (by decide) (LE0 rfl) ?_
  have en : ∀ c k, 0 < c → rh_set Mm 0 0 0 c k = Mm c k := fun c k h => rh_set_a (by omega)
  have is := R.is x1
  have ob : ∀ z : ((0 ≤ x1) ∧ (x1 ≤ 7)) ∧ (Mh (251 + 39 * x1) 3 ≠ 0), rI (Mh (251 + 39 * x1) 16 - 1) := fun z => by
    have := D x1 (by omega) (by omega)
    exact ⟨by omega, by omega⟩
  have om : ∀ z : ((0 ≤ x1) ∧ (x1 ≤ 7)) ∧ (0 < Mm 4 x1), rI (Mm 157 x1 - 1) := fun z => by
    have := D x1 (by omega) (by omega)
    exact ⟨by omega, by omega⟩
  have eq : ((¬ (((0 ≤ x1) ∧ (x1 ≤ 7)) ∧ (Mh (251 + 39 * x1) 3 ≠ 0))) ∨ (¬ ((0 ≤ x2) ∧ (x2 ≤ Mh (251 + 39 * x1) 16 - 1)))) ↔ ((¬ (((0 ≤ x1) ∧ (x1 ≤ 7)) ∧ (0 < Mm 4 x1))) ∨ (¬ ((0 ≤ x2) ∧ (x2 ≤ Mm 157 x1 - 1)))) := by
    rw [is]
    by_cases q : ((0 ≤ x1) ∧ (x1 ≤ 7)) ∧ (0 < Mm 4 x1)
    · rw [(D x1 (by omega) (by omega)).1]
    · exact ⟨fun _ => .inl q, fun _ => .inl q⟩
  refine rh2.l (rX1_made_0 hh _ _ _ _ ?_)
  refine ⟨fun _ => ⟨by omega, by omega⟩, fun _ => ⟨by omega, by omega⟩, ob, fun c => ?_, fun c => ?_⟩
  · refine rh1.of (rX32_made_0 hm _ _ _ _ ?_)
    rw [en 4 _ (by decide), en 157 _ (by decide)]
    exact ⟨fun _ => ⟨by omega, by omega⟩, fun _ => ⟨by omega, by omega⟩, om, fun _ => ⟨rfl, rfl, rfl⟩, fun z => absurd (eq.mp c) z⟩
  have c' : ¬ ((¬ (((0 ≤ x1) ∧ (x1 ≤ 7)) ∧ (0 < Mm 4 x1))) ∨ (¬ ((0 ≤ x2) ∧ (x2 ≤ Mm 157 x1 - 1)))) := fun z => c (eq.mpr z)
  have c1 : ((0 ≤ x1) ∧ (x1 ≤ 7)) ∧ (0 < Mm 4 x1) := Classical.byContradiction (fun z => c' (.inl z))
  have c2 : (0 ≤ x2) ∧ (x2 ≤ Mm 157 x1 - 1) := Classical.byContradiction (fun z => c' (.inr z))
  obtain ⟨d1, d2, d3⟩ := D x1 (by omega) (by omega)
  obtain ⟨v0, v1, v2, v3, v4⟩ := d3 x2 (by omega) (by omega)
  have MM : ∀ P : Int → rhM → Prop, (∀ v, (x3 = 0 → v = Mm 158 (250 * x1 + x2)) → (x3 = 1 → v = Mm 159 (250 * x1 + x2)) → (x3 = 2 → v = Mm 160 (250 * x1 + x2)) → (x3 = 3 → v = Mm 161 (250 * x1 + x2)) → (x3 = 4 → v = Mm 162 (250 * x1 + x2)) → (¬ (0 ≤ x3 ∧ x3 ≤ 4) → v = -102) → P v (rh_set Mm 0 0 0)) → rh1 wm YX32_made 3 0 [(0, 2, 0), (1, 0, x1), (2, 0, x2), (3, 0, x3)] [] Mm P := by
    intro P HP
    refine rh1.of (rX32_made_0 hm _ _ _ _ ?_)
    rw [en 4 _ (by decide), en 157 _ (by decide), en 158 _ (by decide), en 159 _ (by decide), en 160 _ (by decide), en 161 _ (by decide), en 162 _ (by decide)]
    refine ⟨fun _ => ⟨by omega, by omega⟩, fun _ => ⟨by omega, by omega⟩, om, fun z => absurd z c', fun _ => ⟨⟨by omega, by omega⟩, fun z => ⟨⟨by omega, by omega⟩, HP _ ?_ ?_ ?_ ?_ ?_ ?_⟩, fun z0 => ⟨fun z => ⟨⟨by omega, by omega⟩, HP _ ?_ ?_ ?_ ?_ ?_ ?_⟩, fun z1 => ⟨fun z => ⟨⟨by omega, by omega⟩, HP _ ?_ ?_ ?_ ?_ ?_ ?_⟩, fun z2 => ⟨fun z => ⟨⟨by omega, by omega⟩, HP _ ?_ ?_ ?_ ?_ ?_ ?_⟩, fun z3 => ⟨fun z => ⟨⟨by omega, by omega⟩, HP _ ?_ ?_ ?_ ?_ ?_ ?_⟩, fun z4 => HP _ ?_ ?_ ?_ ?_ ?_ ?_⟩⟩⟩⟩⟩⟩
    all_goals first
      | exact fun _ => rfl
      | exact fun y => absurd y (by omega)
  refine ⟨fun e => ?_, fun e => ⟨fun f => ⟨⟨by omega, by omega⟩, ⟨by omega, by omega⟩, ?_⟩, fun f => ⟨⟨by omega, by omega⟩, ⟨by omega, by omega⟩, ?_⟩⟩⟩
  · exact MM _ (fun v h0 h1 h2 h3 h4 hn => ⟨(hn e).symm, rfl, rfl⟩)
  · exact MM _ (fun v h0 h1 h2 h3 h4 hn => ⟨by rw [h0 f]; exact v0, rfl, rfl⟩)
  · have e' : 0 ≤ x3 ∧ x3 ≤ 4 := Classical.byContradiction e
    refine MM _ (fun v h0 h1 h2 h3 h4 hn => ⟨?_, rfl, rfl⟩)
    by_cases q1 : x3 = 1
    · rw [h1 q1, show 4 * x2 + x3 - 1 = 4 * x2 by omega]; exact v1
    · by_cases q2 : x3 = 2
      · rw [h2 q2, show 4 * x2 + x3 - 1 = 4 * x2 + 1 by omega]; exact v2
      · by_cases q3 : x3 = 3
        · rw [h3 q3, show 4 * x2 + x3 - 1 = 4 * x2 + 2 by omega]; exact v3
        · have q4 := no4 f q1 q2 q3 e'
          rw [h4 q4, show 4 * x2 + x3 - 1 = 4 * x2 + 3 by omega]; exact v4
/-- the fields of the applied rules -/
def Rfl (Mh Mm : rhM) : Prop := (Mh 221 10 = Mm 0 251 ∧ 0 ≤ Mm 0 251 ∧ Mm 0 251 ≤ 12) ∧ ∀ i, 0 ≤ i → i < Mm 0 251 → Mh 229 i = Mm 193 i ∧ (Mm 193 i ≠ -1 → Mh 230 i = Mm 194 i ∧ Mh 231 i = Mm 195 i)
theorem op_field (hh : rh_hs wh) (hm : rh_ms wm) {Mh Mm : rhM} (R : Rfl Mh Mm) (x1 x2 : Int) : rC2 wh YX1_field 1 [(2, 0), (0, x1), (0, x2)] Mh wm YX32_field 1 [(2, 0), (0, x1), (0, x2)] Mm (fun r M' r2 M2' => r = r2 ∧ M' = Mh ∧ M2' = rh_set Mm 0 0 0) := by
  refine rC2.of (by decide) (LE0 rfl) (by decide) (LE0 rfl) ?_
  obtain ⟨a1, a2⟩ := R
  have en : ∀ c k, 0 < c → rh_set Mm 0 0 0 c k = Mm c k := fun c k h => rh_set_a (by omega)
  have e5 : rh_set Mm 0 0 0 0 251 = Mm 0 251 := rh_set_j (by decide)
  have eq : ((¬ ((0 ≤ x1) ∧ (x1 ≤ Mh 221 10 - 1))) ∨ (Mh 229 x1 = -1)) ↔ ((¬ ((0 ≤ x1) ∧ (x1 ≤ Mm 0 251 - 1))) ∨ (Mm 193 x1 = -1)) := by
    rw [a1.1]
    by_cases q : (0 ≤ x1) ∧ (x1 ≤ Mm 0 251 - 1)
    · rw [(a2 x1 (by omega) (by omega)).1]
    · exact ⟨fun _ => .inl q, fun _ => .inl q⟩
  refine rh2.l (rX1_field_0 hh _ _ _ ?_)
  refine ⟨fun c => ?_, fun c => ⟨⟨by omega, by omega⟩, fun z => ⟨by omega, by omega⟩, fun d => ?_, fun d => ?_⟩⟩
  · refine rh1.of (rX32_field_0 hm _ _ _ ?_)
    exact ⟨fun _ => ⟨rfl, rfl, rfl⟩, fun z => absurd c z⟩
  · refine rh1.of (rX32_field_0 hm _ _ _ ?_)
    rw [e5, en 193 _ (by decide)]
    exact ⟨fun z => absurd z c, fun _ => ⟨⟨by omega, by omega⟩, fun z => ⟨by omega, by omega⟩, fun _ => ⟨rfl, rfl, rfl⟩, fun z => absurd (eq.mp d) z⟩⟩
  · have d' : ¬ ((¬ ((0 ≤ x1) ∧ (x1 ≤ Mm 0 251 - 1))) ∨ (Mm 193 x1 = -1)) := fun z => d (eq.mpr z)
    have d1 : (0 ≤ x1) ∧ (x1 ≤ Mm 0 251 - 1) := Classical.byContradiction (fun z => d' (.inl z))
    obtain ⟨v0, v⟩ := a2 x1 (by omega) (by omega)
    obtain ⟨v1, v2⟩ := v (fun z => d' (.inr z))
    refine ⟨fun e => ⟨⟨by omega, by omega⟩, ?_⟩, fun e => ⟨fun _ => ⟨by omega, by omega⟩, fun _ => ⟨by omega, by omega⟩, ?_⟩⟩
    · refine rh1.of (rX32_field_0 hm _ _ _ ?_)
      rw [e5, en 193 _ (by decide)]
      exact ⟨fun z => absurd z c, fun _ => ⟨⟨by omega, by omega⟩, fun z => ⟨by omega, by omega⟩, fun z => absurd z d', fun _ => ⟨fun _ => ⟨⟨by omega, by omega⟩, v0, rfl, rfl⟩, fun z => absurd e z⟩⟩⟩
    · refine rh1.of (rX32_field_0 hm _ _ _ ?_)
      rw [e5, en 193 _ (by decide), en 194 _ (by decide), en 195 _ (by decide)]
      exact ⟨fun z => absurd z c, fun _ => ⟨⟨by omega, by omega⟩, fun z => ⟨by omega, by omega⟩, fun z => absurd z d', fun _ => ⟨fun z => absurd z e, fun _ => ⟨fun _ => ⟨by omega, by omega⟩, fun _ => ⟨by omega, by omega⟩, by rw [v1, v2], rfl, rfl⟩⟩⟩⟩
/-- the store -/
def Rst (A B : rhM) : Prop := (A 233 2 = B 0 252 ∧ 0 ≤ B 0 252 ∧ B 0 252 ≤ 40) ∧ (A 233 3 = B 0 256 ∧ (B 0 256 = 0 ∨ B 0 256 = 1) ∧ (B 0 256 = 1 → 0 < B 0 252)) ∧ (∀ i, 0 ≤ i → i ≤ B 0 252 → A 235 i = B 197 i) ∧ B 197 0 = 0 ∧ (∀ i, 0 ≤ i → i < B 0 252 → B 197 i + 5 ≤ B 197 (i + 1)) ∧ (B 197 (B 0 252) ≤ 40000 ∧ B 0 253 = B 197 (B 0 252)) ∧ ∀ k, 0 ≤ k → k < B 197 (B 0 252) → rh_and (A 234 k) 255 = B 196 k ∧ (0 ≤ B 196 k ∧ B 196 k ≤ 255) ∧ -128 ≤ A 234 k ∧ A 234 k ≤ 127
theorem Rst.mono {A B : rhM} (R : Rst A B) : ∀ (u : Nat) (i : Int), i + u = B 0 252 → 0 ≤ i → B 197 i ≤ B 197 (B 0 252) := by
  intro u
  induction u with
  | zero =>
    intro i hi i0
    rw [show i = B 0 252 by omega]
    exact Int.le_refl _
  | succ u ih =>
    intro i hi i0
    have := ih (i + 1) (by omega) (by omega)
    have := R.2.2.2.2.1 i i0 (by omega)
    omega
theorem Rst.low {A B : rhM} (R : Rst A B) : ∀ (u : Nat), (u : Int) ≤ B 0 252 → 0 ≤ B 197 u := by
  intro u
  induction u with
  | zero =>
    intro _
    have := R.2.2.2.1
    show 0 ≤ B 197 0
    omega
  | succ u ih =>
    intro hu
    have := ih (by omega)
    have h := R.2.2.2.2.1 u (by omega) (by omega)
    rw [show ((u + 1 : Nat) : Int) = (u : Int) + 1 by omega]
    omega
/-- a row: where it lies -/
theorem Rst.at {A B : rhM} (R : Rst A B) {i : Int} (h : 0 ≤ i ∧ i ≤ B 0 252 - 1) : (A 235 i = B 197 i ∧ A 235 (i + 1) = B 197 (i + 1)) ∧ (0 ≤ B 197 i ∧ B 197 i + 5 ≤ B 197 (i + 1) ∧ B 197 (i + 1) ≤ 40000) ∧ ∀ k, 0 ≤ k → k < B 197 (i + 1) - B 197 i → rh_and (A 234 (B 197 i + k)) 255 = B 196 (B 197 i + k) ∧ (0 ≤ B 196 (B 197 i + k) ∧ B 196 (B 197 i + k) ≤ 255) ∧ -128 ≤ A 234 (B 197 i + k) ∧ A 234 (B 197 i + k) ≤ 127 := by
  have m := R.mono (B 0 252 - (i + 1)).toNat (i + 1) (by omega) (by omega)
  have l := R.low i.toNat (by omega)
  rw [show ((i.toNat : Nat) : Int) = i by omega] at l
  obtain ⟨r1, r2, r3, r4, r5, r6, r7⟩ := R
  have := r5 i (by omega) (by omega)
  refine ⟨⟨r3 i (by omega) (by omega), r3 (i + 1) (by omega) (by omega)⟩, by omega, fun k k0 k1 => r7 _ (by omega) (by omega)⟩
theorem op_octet (hh : rh_hs wh) (hm : rh_ms wm) {Mh Mm : rhM} (R : Rst Mh Mm) (x1 x2 : Int) : rC2 wh YX1_octet 2 [(2, 0), (0, x1), (0, x2)] Mh wm YX32_octet 2 [(2, 0), (0, x1), (0, x2)] Mm (fun r M' r2 M2' => r = r2 ∧ M' = Mh ∧ M2' = rh_set Mm 0 0 0) := by
  refine rC2.of (by decide) (LE0 rfl) (by decide) (LE0 rfl) ?_
  have en : ∀ c k, 0 < c → rh_set Mm 0 0 0 c k = Mm c k := fun c k h => rh_set_a (by omega)
  have e2 : rh_set Mm 0 0 0 0 252 = Mm 0 252 := rh_set_j (by decide)
  have R1 := R.1
  refine rh2.l (rX1_octet_0 hh _ _ _ ?_)
  rw [R1.1]
  refine ⟨⟨by omega, by omega⟩, fun c => ?_, fun c => ?_⟩
  · refine rh1.of (rX32_octet_0 hm _ _ _ ?_)
    rw [e2]
    exact ⟨⟨by omega, by omega⟩, fun _ => ⟨rfl, rfl, rfl⟩, fun z => absurd c z⟩
  have c' : 0 ≤ x1 ∧ x1 ≤ Mm 0 252 - 1 := Classical.byContradiction c
  obtain ⟨⟨a1, a2⟩, a3, a4⟩ := R.at c'
  rw [a1, a2]
  refine ⟨⟨by omega, by omega⟩, ⟨by omega, by omega⟩, ⟨by omega, by omega⟩, ⟨by omega, by omega⟩, fun z => ⟨by omega, by omega⟩, fun z => ⟨by omega, by omega⟩, ?_⟩
  refine rh1.of (rX32_octet_0 hm _ _ _ ?_)
  rw [e2, en 197 _ (by decide), en 197 _ (by decide), en 196 _ (by decide)]
  refine ⟨⟨by omega, by omega⟩, fun z => absurd z c, fun _ => ⟨⟨by omega, by omega⟩, ⟨by omega, by omega⟩, ⟨by omega, by omega⟩, ⟨by omega, by omega⟩, fun z => ⟨by omega, by omega⟩, fun z => ⟨by omega, by omega⟩, ?_, rfl, rfl⟩⟩
  by_cases q : (0 ≤ x2) ∧ (x2 ≤ Mm 197 (x1 + 1) - Mm 197 x1 - 1)
  · rw [rh_if_t q, rh_if_t q]
    exact (a4 x2 (by omega) (by omega)).1
  · rw [rh_if_f q, rh_if_f q]
theorem op_crash (hh : rh_hs wh) (hm : rh_ms wm) {Mh Mm : rhM} (R : Rst Mh Mm) (x1 : Int) : rC2 wh YX1_crash 2 [(2, 0), (0, x1)] Mh wm YX32_crash 1 [(2, 0), (0, x1)] Mm (fun r M' r2 M2' => r = r2 ∧ Rst M' M2' ∧ frx (fun c j => c = 233) Mh M' ∧ frx (fun c j => c = 0 ∧ (j = 0 ∨ j = 252 ∨ j = 253 ∨ j = 256)) Mm M2') := by
  refine rC2.of (by decide) (LE0 rfl) (by decide) (LE0 rfl) ?_
  obtain ⟨M0, hM0⟩ : ∃ M0, M0 = rh_set Mm 0 0 0 := ⟨_, rfl⟩
  have en : ∀ c k, 0 < c → M0 c k = Mm c k := fun c k h => by rw [hM0]; exact rh_set_a (by omega)
  have ez : ∀ j, j ≠ 0 → M0 0 j = Mm 0 j := fun j h => by rw [hM0]; exact rh_set_j h
  have RR := R
  obtain ⟨r1, ⟨r2, r2b, r2c⟩, r3, r4, r5, r6, r7⟩ := R
  obtain ⟨n, hn⟩ : ∃ n, Mm 0 252 = n := ⟨_, rfl⟩
  rw [hn] at r1 r2c r3 r5 r6 r7
  have new : ∀ (k : Int) (M' M2' : rhM), 0 ≤ k → k ≤ n → M' 233 2 = k → M' 233 3 = 0 → M2' 0 252 = k → M2' 0 256 = 0 → M2' 0 253 = Mm 197 k → (∀ c j, c ≠ 233 → M' c j = Mh c j) → (∀ c j, 0 < c → M2' c j = Mm c j) → Rst M' M2' := by
    intro k M' M2' k0 k1 e1 e2 e3 e4 e5 f g
    have mk := RR.mono (n - k).toNat k (by rw [hn]; omega) k0
    rw [hn] at mk
    unfold Rst
    rw [e1, e2, e3, e4, e5, g 197 0 (by decide), g 197 k (by decide)]
    refine ⟨⟨rfl, k0, by omega⟩, ⟨rfl, .inl rfl, fun z => by omega⟩, fun i i0 i1 => ?_, r4, fun i i0 i1 => ?_, ⟨by omega, rfl⟩, fun j j0 j1 => ?_⟩
    · rw [f 235 i (by decide), g 197 i (by decide)]; exact r3 i i0 (by omega)
    · rw [g 197 i (by decide), g 197 (i + 1) (by decide)]; exact r5 i i0 (by omega)
    · rw [f 234 j (by decide), g 196 j (by decide)]; exact r7 j j0 (by omega)
  refine rh2.l (rX1_crash_0 hh _ _ ?_)
  refine ⟨fun c => ?_, fun c => ?_⟩
  · refine rh1.of (rX32_crash_0 hm _ _ ?_)
    rw [← hM0]
    refine ⟨fun _ => ⟨rfl, ?_, frx.rf, by rw [hM0]; exact frx.rf.st (by omega)⟩, fun z => absurd c z⟩
    unfold Rst
    rw [ez 252 (by decide), ez 256 (by decide), ez 253 (by decide), hn, en 197 0 (by decide), en 197 n (by decide)]
    refine ⟨r1, ⟨r2, r2b, r2c⟩, fun i i0 i1 => ?_, r4, fun i i0 i1 => ?_, r6, fun j j0 j1 => ?_⟩
    · rw [en 197 i (by decide)]; exact r3 i i0 i1
    · rw [en 197 i (by decide), en 197 (i + 1) (by decide)]; exact r5 i i0 i1
    · rw [en 196 j (by decide)]; exact r7 j j0 j1
  -- whether the last row goes
  have gone : Mm 0 256 ≠ 0 → 0 < n ∧ Mh 235 (n - 1 + 1) - Mh 235 (n - 1) = Mm 197 (n - 1 + 1) - Mm 197 (n - 1) ∧ rI (Mm 197 (n - 1 + 1) - Mm 197 (n - 1)) := fun z => by
    have n0 : 0 < n := r2c (r2b.resolve_left z)
    obtain ⟨⟨a1, a2⟩, a3, -⟩ := RR.at (i := n - 1) (by rw [hn]; exact ⟨by omega, by omega⟩)
    exact ⟨n0, by rw [a1, a2], ⟨by omega, by omega⟩⟩
  obtain ⟨d, hd⟩ : ∃ d, d = rh_if ((Mm 0 256 ≠ 0) ∧ (x1 < Mm 197 (n - 1 + 1) - Mm 197 (n - 1))) (1 : Int) 0 := ⟨_, rfl⟩
  have dd : rh_if ((Mh 233 3 ≠ 0) ∧ (x1 < Mh 235 (n - 1 + 1) - Mh 235 (n - 1))) (1 : Int) 0 = d := by
    rw [hd, r2]
    by_cases z : Mm 0 256 ≠ 0
    · rw [(gone z).2.1]
    · rw [rh_if_f (fun y => z y.1), rh_if_f (fun y => z y.1)]
  have db : 0 ≤ d ∧ d ≤ 1 ∧ (d = 1 → 0 < n) := by
    rw [hd]
    by_cases z : (Mm 0 256 ≠ 0) ∧ (x1 < Mm 197 (n - 1 + 1) - Mm 197 (n - 1))
    · rw [rh_if_t z]; have := (gone z.1).1; omega
    · rw [rh_if_f z]; omega
  obtain ⟨A1, hA1⟩ : ∃ A1, A1 = rh_set (rh_set Mh 233 2 (n - d)) 233 3 0 := ⟨_, rfl⟩
  have KC : eC wh YX28_crash 1 [(2, 233), (0, x1)] Mh (n - d) A1 := eC.of1 (rC1.of (by decide) (LE0 rfl) (by
    refine rh1.of (rX28_crash_0 hh _ _ ?_)
    rw [r1.1, dd]
    refine ⟨fun z => ⟨by omega, by omega⟩, fun z => ?_, fun z => ?_, fun z => ?_, ?_⟩
    · rw [r2] at z; have := gone z; exact ⟨by omega, by omega⟩
    · rw [r2] at z; have := gone z; exact ⟨by omega, by omega⟩
    · rw [r2] at z; have := gone z; rw [this.2.1]; exact this.2.2
    (intro zq hzq; replace hzq := hzq.symm; subst hzq)
    refine ⟨⟨by omega, by omega⟩, ⟨by omega, by omega⟩, ?_⟩
    (intro zq hzq; replace hzq := hzq.symm; subst hzq)
    rw [← hA1]
    refine ⟨?_, rfl⟩
    rw [hA1, rh_set_j (by decide), rh_set_s]))
  have f2 : A1 233 2 = n - d := by rw [hA1, rh_set_j (by decide), rh_set_s]
  have f3 : A1 233 3 = 0 := by rw [hA1, rh_set_s]
  have fA : ∀ c j, c ≠ 233 → A1 c j = Mh c j := fun c j h => by rw [hA1, rh_set_a h, rh_set_a h]
  refine rh2.sl (vX1_crash_14 hh KC (LE0 rfl)) ?_
  refine rh2.l (rX1_crash_17 hh _ _ ?_)
  refine rh1.of (rX32_crash_0 hm _ _ ?_)
  rw [← hM0, ez 256 (by decide), ez 252 (by decide), hn, en 197 _ (by decide), en 197 _ (by decide)]
  refine ⟨fun z => absurd z c, fun _ => ⟨fun z => ⟨by omega, by omega⟩, fun z => ?_, fun z => ?_, fun z => (gone z).2.2, fun z => ?_, fun z => ?_⟩⟩
  · have := gone z; exact ⟨by omega, by omega⟩
  · have := gone z; exact ⟨by omega, by omega⟩
  · have e1 : d = 1 := by rw [hd, rh_if_t z]
    have n0 := (gone z.1).1
    (intro zq hzq; replace hzq := hzq.symm; subst hzq)
    refine ⟨⟨by omega, by omega⟩, ?_⟩
    (intro zq hzq; replace hzq := hzq.symm; subst hzq)
    rw [rh_set_s]
    refine ⟨⟨by omega, by omega⟩, ⟨by omega, by omega⟩, ?_⟩
    rw [rh_set_a (by decide), en 197 _ (by decide)]
    (intro zq hzq; replace hzq := hzq.symm; subst hzq)
    refine ⟨by rw [rh_set_j (by decide), rh_set_j (by decide), rh_set_s]; omega, new (n - 1) _ _ (by omega) (by omega) (by rw [f2]; omega) f3 (by rw [rh_set_j (by decide), rh_set_j (by decide), rh_set_s]) (rh_set_s _ _ _ _) (by rw [rh_set_j (by decide), rh_set_s]) fA (fun c j h => by rw [rh_set_a (by omega), rh_set_a (by omega), rh_set_a (by omega)]; exact en c j h), fun c j h => fA c j h, ?_⟩
    rw [hM0]
    exact (((frx.rf.st (by omega)).st (by omega)).st (by omega)).st (by omega)
  · have e1 : d = 0 := by rw [hd, rh_if_f z]
    refine ⟨⟨by omega, by omega⟩, ?_⟩
    (intro zq hzq; replace hzq := hzq.symm; subst hzq)
    refine ⟨by rw [rh_set_j (by decide), ez 252 (by decide), hn]; omega, new n _ _ (by omega) (Int.le_refl _) (by rw [f2]; omega) f3 (by rw [rh_set_j (by decide), ez 252 (by decide)]; exact hn) (rh_set_s _ _ _ _) (by rw [rh_set_j (by decide), ez 253 (by decide)]; exact r6.2) fA (fun c j h => by rw [rh_set_a (by omega)]; exact en c j h), fun c j h => fA c j h, ?_⟩
    rw [hM0]
    exact (frx.rf.st (by omega)).st (by omega)
end Small
