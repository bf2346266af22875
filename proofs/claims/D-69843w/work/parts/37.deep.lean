/-! ===== LAYER 2: deep ===== -/
section Deep
variable {wh wm : rhW}
theorem c_blackM (hm : rh_ms wm) {p x y : Int} (hp : 0 ≤ p ∧ p < 8) (M : rhM) (h4 : 0 ≤ M 4 p ∧ M 4 p * M 5 p ≤ 6144) (hx : 0 ≤ x ∧ 0 ≤ y ∧ x < M 4 p ∧ y < M 5 p) : eC wm YX32_isBlack 1 [(2, 0), (0, p), (0, x), (0, y)] M (rh_if (M 3 (6144 * p + (M 4 p * y + x)) < 128) 1 0) M := by
  have h1 := mul_lt (a := M 4 p) (b := M 5 p) (x := x) (y := y) (by omega) (by omega) (by omega) (by omega)
  have h2 := mul_nn (a := M 4 p) (b := y) (by omega) (by omega)
  have hc := Int.mul_comm y (M 4 p)
  have e : 6144 * p + y * M 4 p + x = 6144 * p + (M 4 p * y + x) := by omega
  refine eC.of1 (rC1.of (by decide) (LE0 rfl) (rh1.of (rX32_isBlack_0 hm _ _ _ _ ⟨fun _ _ => hp, fun _ _ _ => hp, fun _ => hp, fun _ => ⟨by omega, by omega⟩, ?_, rfl⟩)))
  rw [e]
  by_cases z : M 3 (6144 * p + (M 4 p * y + x)) < 128
  · rw [rh_if_t z, rh_if_t ⟨hx, z⟩]
  · rw [rh_if_f z, rh_if_f (fun q => z q.2)]
theorem sqb {a n : Int} (h0 : -n ≤ a) (h1 : a ≤ n) : 0 ≤ a * a ∧ a * a ≤ n * n := by
  rcases Int.le_total 0 a with h | h
  · exact ⟨mul_nn h h, pr_le h h1 h h1⟩
  · have e : a * a = -a * -a := by rw [Int.neg_mul_neg]
    rw [e]
    exact ⟨mul_nn (by omega) (by omega), pr_le (by omega) (by omega) (by omega) (by omega)⟩
theorem op_deep (hh : rh_hs wh) (hm : rh_ms wm) {Mh Mm : rhM} (R : Rpg Mh Mm) (x1 x2 x3 : Int) : rC2 wh YX1_deep 3 [(2, 0), (0, x1), (0, x2), (0, x3)] Mh wm YX32_deep 3 [(2, 0), (0, x1), (0, x2), (0, x3)] Mm (fun r M' r2 M2' => r = r2 ∧ M' = Mh ∧ M2' = rh_set Mm 0 0 0) := by
  refine rC2.of (by decide) (LE0 rfl) (by decide) (LE0 rfl) ?_
  have e5 : rh_set Mm 0 0 0 5 x1 = Mm 5 x1 := rh_set_a (by decide)
  have e3 : ∀ z, rh_set Mm 0 0 0 3 z = Mm 3 z := fun z => rh_set_a (by decide)
  refine rh2.l (rX1_deep_0 hh _ _ _ _ ⟨by omega, fun c => ?_, fun c => ⟨by omega, ?_⟩⟩)
  · refine rh1.of (rX32_deep_0 hm _ _ _ _ ⟨by omega, fun d => ⟨rfl, rfl, rfl⟩, fun d => ?_⟩)
    rw [set0_4] at d
    have := (R x1 (by omega) (by omega)).2
    omega
  · have hp : 0 ≤ x1 ∧ x1 < 8 := by omega
    obtain ⟨⟨a1, a2, a3, a4, a5, a6, a7, a8, a9, a10⟩, b⟩ := R x1 hp.1 hp.2
    have hn : ¬ ¬ ((0 ≤ x1 ∧ x1 ≤ 7) ∧ 0 < Mm 4 x1) := by omega
    have hB := hs_pg hh hp.1 hp.2
    rw [a1, a2]
    refine ⟨fun c1 => ?_, fun c1 => ?_⟩
    · refine rh1.of (rX32_deep_0 hm _ _ _ _ ?_)
      rw [set0_4, e5]
      exact ⟨by omega, fun d => absurd d hn, fun _ => ⟨fun _ _ => hp, fun _ _ _ => hp, fun _ => ⟨rfl, rfl, rfl⟩, fun d => absurd d (by omega)⟩⟩
    · have hi : 0 ≤ x2 ∧ x2 < Mm 4 x1 ∧ 0 ≤ x3 ∧ x3 < Mm 5 x1 := Classical.not_not.mp c1
      have h1 := mul_lt (a := Mm 4 x1) (b := Mm 5 x1) (x := x2) (y := x3) (by omega) (by omega) (by omega) (by omega)
      have h2 := mul_nn (a := Mm 4 x1) (b := x3) (by omega) (by omega)
      have hg := a10 (Mm 4 x1 * x3 + x2) (by omega) h1
      rw [hg.1]
      refine ⟨fun _ => ⟨by omega, by omega⟩, fun _ => ⟨by omega, by omega⟩, ?_⟩
      have stepM : ∀ {A : Nat → rhL → List rhA → rhM → Prop} {B : Int → rhM → Prop}, A 33 [(0, 2, 0), (1, 0, x1), (2, 0, x2), (3, 0, x3)] [(0, x3), (0, x2), (0, x1), (2, 0)] (rh_set Mm 0 0 0) → rhLf wm YX32_deep 3 0 [(0, 2, 0), (1, 0, x1), (2, 0, x2), (3, 0, x3)] [] Mm A B := fun {A B} h => rX32_deep_0 hm (A := A) (B := B) x1 x2 x3 Mm (by
        rw [set0_4, e5]
        exact ⟨by omega, fun d => absurd d hn, fun _ => ⟨fun _ _ => hp, fun _ _ _ => hp, fun d => absurd d (by omega), fun _ => h⟩⟩)
      have EM := c_blackM hm (p := x1) (x := x2) (y := x3) hp (rh_set Mm 0 0 0) (by rw [set0_4, e5]; omega) (by rw [set0_4, e5]; omega)
      rw [set0_4, e3] at EM
      refine ⟨fun c2 => ?_, fun c2 => ?_⟩
      · have z : ¬ Mm 3 (6144 * x1 + (Mm 4 x1 * x3 + x2)) < 128 := fun z => c2 ⟨hi, z⟩
        rw [rh_if_f z] at EM
        refine rh1.of (stepM (rh1.s (vX32_deep_33 hm EM (LE0 rfl)) (rh1.of (rX32_deep_36 hm _ _ _ _ _ ⟨fun _ => ⟨rfl, rfl, rfl⟩, fun d => absurd rfl d⟩))))
      · have z : Mm 3 (6144 * x1 + (Mm 4 x1 * x3 + x2)) < 128 := (Classical.not_not.mp c2).2
        rw [rh_if_t z] at EM
        refine ⟨⟨by omega, by omega⟩, ⟨by omega, by omega⟩, ⟨by omega, by omega⟩, ⟨by omega, by omega⟩, fun s es => ?_⟩
        have hs : 0 ≤ s ∧ s ≤ 128 ∧ s ≤ x2 + 1 ∧ s ≤ x3 + 1 ∧ s ≤ Mm 4 x1 - x2 ∧ s ≤ Mm 5 x1 - x3 ∧ (s = x2 + 1 ∨ s = x3 + 1 ∨ s = Mm 4 x1 - x2 ∨ s = Mm 5 x1 - x3) := by
          rw [es]
          by_cases q1 : Mm 5 x1 - x3 < x3 + 1 <;> by_cases q2 : Mm 4 x1 - x2 < x2 + 1 <;> simp only [rh_if_t, rh_if_f, q1, q2, not_false_iff] <;> (rw [rh_if]; split <;> omega)
        have hq := sqb (a := s) (n := 128) (by omega) (by omega)
        refine ⟨⟨by omega, by omega⟩, ?_⟩
        refine rh2.r (stepM (rh2.sr (vX32_deep_33 hm EM (LE0 rfl)) (rh2.r (rX32_deep_36 hm _ _ _ _ _ ?_))))
        rw [set0_4, e5]
        refine ⟨fun d => absurd d (by decide), fun _ => ⟨⟨by omega, by omega⟩, ⟨by omega, by omega⟩, hp, hp, ⟨by omega, by omega⟩, ⟨by omega, by omega⟩, fun s2 es2 => ?_⟩⟩
        have hs2 : s2 = s := by
          have : s2 ≤ x2 + 1 ∧ s2 ≤ x3 + 1 ∧ s2 ≤ Mm 4 x1 - x2 ∧ s2 ≤ Mm 5 x1 - x3 ∧ (s2 = x2 + 1 ∨ s2 = x3 + 1 ∨ s2 = Mm 4 x1 - x2 ∨ s2 = Mm 5 x1 - x3) := by
            rw [es2]
            by_cases q1 : x2 + 1 < x3 + 1 <;> by_cases q2 : Mm 4 x1 - x2 < Mm 5 x1 - x3 <;> simp only [rh_if_t, rh_if_f, q1, q2, not_false_iff] <;> (rw [rh_if]; split <;> omega)
          omega
        subst hs2
        refine ⟨⟨by omega, by omega⟩, ?_⟩
        have key : ∀ (v : Nat) (k m : Int), (Mm 4 x1 * Mm 5 x1 - k).toNat = v → 0 ≤ k → k ≤ Mm 4 x1 * Mm 5 x1 → 0 ≤ m → m ≤ 16384 →
            rh2 wh YX1_deep 3 85 [(2, 0, x2), (3, 0, x3), (4, 2, 251 + 39 * x1), (6, 0, m), (7, 0, k)] [] Mh wm YX32_deep 3 84 [(0, 2, 0), (1, 0, x1), (2, 0, x2), (3, 0, x3), (5, 0, m), (6, 0, k)] [] (rh_set Mm 0 0 0) (fun r M' r2 M2' => r = r2 ∧ M' = Mh ∧ M2' = rh_set Mm 0 0 0) := by
          intro v
          induction v using Nat.strongRecOn with
          | ind v ih =>
            intro k m hv k0 k1 m0 m1
            refine rh2.l (rX1_deep_85 hh _ _ _ _ _ _ hB ?_)
            rw [a1, a2]
            refine ⟨⟨by omega, by omega⟩, fun c => ?_, fun c => ?_⟩
            · have hk := a10 k k0 c
              have d1 := Int.emod_nonneg k (show Mm 4 x1 ≠ 0 by omega)
              have d2 := Int.emod_lt_of_pos k (show 0 < Mm 4 x1 by omega)
              have d3 := Int.ediv_nonneg k0 (show 0 ≤ Mm 4 x1 by omega)
              have d4 : k / Mm 4 x1 < Mm 5 x1 := Int.ediv_lt_of_lt_mul (by omega) (by rw [Int.mul_comm]; exact c)
              rw [hk.1]
              refine ⟨⟨by omega, by omega⟩, fun u eu => ⟨⟨by omega, by omega⟩, ⟨by omega, by omega⟩, fun w ew => ?_⟩⟩
              have q1 := sqb (a := u) (n := 128) (by omega) (by omega)
              have q2 := sqb (a := w) (n := 96) (by omega) (by omega)
              refine ⟨⟨by omega, by omega⟩, ⟨by omega, by omega⟩, fun _ => ⟨by omega, by omega⟩, fun t et => ⟨⟨by omega, by omega⟩, ?_⟩⟩
              refine rh2.r (rX32_deep_84 hm _ _ _ _ _ _ ?_)
              rw [set0_4, e5, e3]
              refine ⟨hp, hp, ⟨by omega, by omega⟩, fun d => ⟨⟨by omega, by omega⟩, fun g => ?_, fun g => ?_⟩, fun d => absurd c d⟩
              · refine ⟨hp, ⟨by omega, by omega⟩, fun u2 eu2 => ⟨⟨by omega, by omega⟩, hp, ⟨by omega, by omega⟩, fun w2 ew2 => ?_⟩⟩
                rw [← eu] at eu2
                rw [← ew] at ew2
                subst eu2 ew2
                refine ⟨⟨by omega, by omega⟩, ⟨by omega, by omega⟩, fun t2 et2 => ⟨⟨by omega, by omega⟩, ?_⟩⟩
                rw [rh_if_f (show ¬ Mm 3 (6144 * x1 + k) < 128 by omega)] at et
                have : t2 = t ∧ 0 ≤ t ∧ t ≤ 16384 := by
                  by_cases y1 : u2 * u2 + w2 * w2 < m
                  · rw [rh_if_t y1] at et
                    rw [rh_if_f (by omega)] at et2
                    omega
                  · rw [rh_if_f y1] at et
                    by_cases y2 : m < u2 * u2 + w2 * w2
                    · rw [rh_if_t y2] at et2; omega
                    · rw [rh_if_f y2] at et2; omega
                obtain ⟨rfl, t0, t1⟩ := this
                exact ih _ (by omega) (k + 1) t2 rfl (by omega) (by omega) t0 t1
              · rw [rh_if_t (show Mm 3 (6144 * x1 + k) < 128 by omega)] at et
                subst et
                exact ⟨⟨by omega, by omega⟩, ih _ (by omega) (k + 1) t rfl (by omega) (by omega) m0 m1⟩
            · refine rh1.of (rX32_deep_84 hm _ _ _ _ _ _ ?_)
              rw [set0_4, e5]
              exact ⟨hp, hp, ⟨by omega, by omega⟩, fun d => absurd d c, fun d => ⟨rfl, rfl, rfl⟩⟩
        exact key _ 0 _ rfl (by omega) a7 hq.1 (by omega)
end Deep
