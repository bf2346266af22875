/-! ===== LAYER 2: readings: chosen, sign, question ===== -/
section Reads2
variable {wh wm : rhW}
def RdX (Mh Mm : rhM) (x k i : Int) : Prop := (Mh (x + 6) (4 * i + 0) = Mm 115 k ∧ Mh (x + 6) (4 * i + 1) = Mm 116 k ∧ Mh (x + 6) (4 * i + 2) = Mm 117 k ∧ Mh (x + 6) (4 * i + 3) = Mm 118 k) ∧ Mh (x + 7) i = Mm 119 k ∧ Mh (x + 8) i = Mm 120 k ∧ Mh (x + 11) i = Mm 123 k ∧ Mm 122 k = rh_if (Mm 123 k = 1 ∨ Mm 121 k = 1) 255 (rh_if (Mm 124 (4 * k + 1) - Mm 124 (4 * k + 0) < 255) (Mm 124 (4 * k + 1) - Mm 124 (4 * k + 0)) 255) ∧ ∀ p, 0 ≤ p → p < 6 → Mh (x + 17) (6 * i + p) = Mm 137 (6 * k + p)
def RdB (Mh Mm : rhM) : Prop := ∀ r, 0 ≤ r → r < 4 → Mm 113 r ≠ 0 → ∀ i, 0 ≤ i → i < Mm 114 r → RdX Mh Mm (563 + 18 * r) (80 * r + i) i
theorem c_margin (hh : rh_hs wh) {x k i : Int} (hx : rh_bl wh 2 x 0) (hi : 0 ≤ i ∧ i < 80) {Mh Mm : rhM} (W : RdW Mh Mm x k i) (X : RdX Mh Mm x k i) : eC wh YX31_margin 1 [(2, x), (0, i)] Mh (Mm 122 k) Mh := by
  refine eC.of1 (rC1.of (by decide) (LE0 rfl) ?_)
  obtain ⟨x1, x2, x3, x4, x5, x6⟩ := X
  obtain ⟨w1, w2, -⟩ := W
  refine rh1.of (rX31_margin_0 hh _ _ _ hx ?_)
  rw [x4, w1.1]
  refine ⟨hi, fun _ => hi, fun c => ⟨by rw [x5, rh_if_t c], rfl⟩, fun c => ?_⟩
  have s0 := (w2 0 (by omega) (by omega)).1
  have s1 := (w2 1 (by omega) (by omega)).1
  rw [s1.1, show 4 * i = 4 * i + 0 by omega, s0.1]
  exact ⟨⟨by omega, by omega⟩, ⟨by omega, by omega⟩, ⟨by omega, by omega⟩, by rw [x5, rh_if_f c], rfl⟩
theorem no10 {x : Int} (h0 : ¬ x = 0) (h1 : ¬ x = 1) (h2 : ¬ x = 2) (h3 : ¬ x = 3) (h4 : ¬ x = 4) (h5 : ¬ x = 5) (h6 : ¬ x = 6) (h7 : ¬ x = 7) (h8 : ¬ x = 8) (h9 : ¬ x = 9) : ¬ (0 ≤ x ∧ x ≤ 9) := by omega
theorem op_chosen (hh : rh_hs wh) (hm : rh_ms wm) {Mh Mm : rhM} (R : RdA Mh Mm) (Q : RdB Mh Mm) (x1 x2 x3 : Int) : rC2 wh YX1_chosen 3 [(2, 0), (0, x1), (0, x2), (0, x3)] Mh wm YX32_chosen 3 [(2, 0), (0, x1), (0, x2), (0, x3)] Mm (fun r M' r2 M2' => r = r2 ∧ M' = Mh ∧ M2' = rh_set Mm 0 0 0) := by
  refine rC2.of (by decide) (LE0 rfl) (by decide) (LE0 rfl) ?_
  have en : ∀ c k, 0 < c → rh_set Mm 0 0 0 c k = Mm c k := fun c k h => rh_set_a (by omega)
  have at' := R.at x1 x2
  refine rh2.l (rX1_chosen_0 hh _ _ _ _ ?_)
  refine ⟨⟨by omega, by omega⟩, fun _ => ⟨by omega, by omega⟩, fun _ => ⟨by omega, by omega⟩, fun z => R.ob z, fun c => ?_, fun c => ?_⟩
  · refine rh1.of (rX32_chosen_0 hm _ _ _ _ ?_)
    rw [en 113 _ (by decide), en 114 _ (by decide)]
    exact ⟨fun _ => ⟨by omega, by omega⟩, fun _ => ⟨by omega, by omega⟩, fun z => R.om z, fun _ => ⟨rfl, rfl, rfl⟩, fun z => absurd (fun y => c (at'.mpr y)) z⟩
  · have c' := at'.mp (Classical.byContradiction c)
    obtain ⟨a1, a2⟩ := R x1 (by omega) (by omega)
    obtain ⟨b1, b2, b3⟩ := a2 c'.1.2
    have W := b3 x2 (by omega) (by omega)
    have X := Q x1 (by omega) (by omega) c'.1.2 x2 (by omega) (by omega)
    have KM := c_margin hh (hs_rd hh (show 0 ≤ x1 by omega) (show x1 < 4 by omega)) ⟨by omega, by omega⟩ W X
    obtain ⟨w1, w2, w3, w4⟩ := W
    obtain ⟨⟨y0, y1, y2, y3⟩, y4, y5, y6, y7, y8⟩ := X
    have MM : ∀ P : Int → rhM → Prop, (∀ v, (x3 = 0 → v = Mm 121 (80 * x1 + x2)) → (x3 = 1 → v = Mm 124 (4 * (80 * x1 + x2))) → (x3 = 2 → v = Mm 122 (80 * x1 + x2)) → (x3 = 3 → v = Mm 115 (80 * x1 + x2)) → (x3 = 4 → v = Mm 116 (80 * x1 + x2)) → (x3 = 5 → v = Mm 117 (80 * x1 + x2)) → (x3 = 6 → v = Mm 118 (80 * x1 + x2)) → (x3 = 7 → v = Mm 119 (80 * x1 + x2)) → (x3 = 8 → v = Mm 120 (80 * x1 + x2)) → (x3 = 9 → v = Mm 123 (80 * x1 + x2)) → (¬ (0 ≤ x3 ∧ x3 ≤ 9) → v = -102) → P v (rh_set Mm 0 0 0)) → rh1 wm YX32_chosen 3 0 [(0, 2, 0), (1, 0, x1), (2, 0, x2), (3, 0, x3)] [] Mm P := by
      intro P HP
      refine rh1.of (rX32_chosen_0 hm _ _ _ _ ?_)
      rw [en 113 _ (by decide), en 114 _ (by decide), en 121 _ (by decide), en 124 _ (by decide), en 122 _ (by decide), en 115 _ (by decide), en 116 _ (by decide), en 117 _ (by decide), en 118 _ (by decide), en 119 _ (by decide), en 120 _ (by decide), en 123 _ (by decide)]
      refine ⟨fun _ => ⟨by omega, by omega⟩, fun _ => ⟨by omega, by omega⟩, fun z => R.om z, fun z => absurd c' z, fun _ => ⟨⟨by omega, by omega⟩, fun z => ⟨⟨by omega, by omega⟩, HP _ ?_ ?_ ?_ ?_ ?_ ?_ ?_ ?_ ?_ ?_ ?_⟩, fun z0 => ⟨fun z => ⟨⟨by omega, by omega⟩, HP _ ?_ ?_ ?_ ?_ ?_ ?_ ?_ ?_ ?_ ?_ ?_⟩, fun z1 => ⟨fun z => ⟨⟨by omega, by omega⟩, HP _ ?_ ?_ ?_ ?_ ?_ ?_ ?_ ?_ ?_ ?_ ?_⟩, fun z2 => ⟨fun z => ⟨⟨by omega, by omega⟩, HP _ ?_ ?_ ?_ ?_ ?_ ?_ ?_ ?_ ?_ ?_ ?_⟩, fun z3 => ⟨fun z => ⟨⟨by omega, by omega⟩, HP _ ?_ ?_ ?_ ?_ ?_ ?_ ?_ ?_ ?_ ?_ ?_⟩, fun z4 => ⟨fun z => ⟨⟨by omega, by omega⟩, HP _ ?_ ?_ ?_ ?_ ?_ ?_ ?_ ?_ ?_ ?_ ?_⟩, fun z5 => ⟨fun z => ⟨⟨by omega, by omega⟩, HP _ ?_ ?_ ?_ ?_ ?_ ?_ ?_ ?_ ?_ ?_ ?_⟩, fun z6 => ⟨fun z => ⟨⟨by omega, by omega⟩, HP _ ?_ ?_ ?_ ?_ ?_ ?_ ?_ ?_ ?_ ?_ ?_⟩, fun z7 => ⟨fun z => ⟨⟨by omega, by omega⟩, HP _ ?_ ?_ ?_ ?_ ?_ ?_ ?_ ?_ ?_ ?_ ?_⟩, fun z8 => ⟨fun z => ⟨⟨by omega, by omega⟩, HP _ ?_ ?_ ?_ ?_ ?_ ?_ ?_ ?_ ?_ ?_ ?_⟩, fun z9 => HP _ ?_ ?_ ?_ ?_ ?_ ?_ ?_ ?_ ?_ ?_ ?_⟩⟩⟩⟩⟩⟩⟩⟩⟩⟩⟩
      all_goals first
        | exact fun _ => rfl
        | exact fun y => absurd y (by omega)
    have s0 := (w2 0 (by omega) (by omega)).1.1
    rw [show 4 * x2 + 0 = 4 * x2 by omega, show 4 * (80 * x1 + x2) + 0 = 4 * (80 * x1 + x2) by omega] at s0
    refine ⟨⟨by omega, by omega⟩, fun z => ⟨⟨by omega, by omega⟩, ?_⟩, fun z0 => ⟨fun z => ⟨⟨by omega, by omega⟩, ?_⟩, fun z1 => ⟨fun z => ?_, fun z2 => ⟨fun z => ⟨⟨by omega, by omega⟩, ?_⟩, fun z3 => ⟨fun z => ⟨⟨by omega, by omega⟩, ?_⟩, fun z4 => ⟨fun z => ⟨⟨by omega, by omega⟩, ?_⟩, fun z5 => ⟨fun z => ⟨⟨by omega, by omega⟩, ?_⟩, fun z6 => ⟨fun z => ⟨⟨by omega, by omega⟩, ?_⟩, fun z7 => ⟨fun z => ⟨⟨by omega, by omega⟩, ?_⟩, fun z8 => ⟨fun z => ⟨⟨by omega, by omega⟩, ?_⟩, fun z9 => ?_⟩⟩⟩⟩⟩⟩⟩⟩⟩⟩
    · exact MM _ (fun v h0 h1 h2 h3 h4 h5 h6 h7 h8 h9 hn => ⟨by rw [h0 z]; exact w1.1, rfl, rfl⟩)
    · exact MM _ (fun v h0 h1 h2 h3 h4 h5 h6 h7 h8 h9 hn => ⟨by rw [h1 z]; exact s0, rfl, rfl⟩)
    · refine rh2.sl (vX1_chosen_97 (hs_rd hh (show 0 ≤ x1 by omega) (show x1 < 4 by omega)) KM (LE0 rfl)) ?_
      refine rh2.l (rX1_chosen_100 hh _ _ ?_)
      exact MM _ (fun v h0 h1 h2 h3 h4 h5 h6 h7 h8 h9 hn => ⟨(h2 z).symm, rfl, rfl⟩)
    · exact MM _ (fun v h0 h1 h2 h3 h4 h5 h6 h7 h8 h9 hn => ⟨by rw [h3 z, show 4 * x2 + x3 - 3 = 4 * x2 + 0 by omega]; exact y0, rfl, rfl⟩)
    · exact MM _ (fun v h0 h1 h2 h3 h4 h5 h6 h7 h8 h9 hn => ⟨by rw [h4 z, show 4 * x2 + x3 - 3 = 4 * x2 + 1 by omega]; exact y1, rfl, rfl⟩)
    · exact MM _ (fun v h0 h1 h2 h3 h4 h5 h6 h7 h8 h9 hn => ⟨by rw [h5 z, show 4 * x2 + x3 - 3 = 4 * x2 + 2 by omega]; exact y2, rfl, rfl⟩)
    · exact MM _ (fun v h0 h1 h2 h3 h4 h5 h6 h7 h8 h9 hn => ⟨by rw [h6 z, show 4 * x2 + x3 - 3 = 4 * x2 + 3 by omega]; exact y3, rfl, rfl⟩)
    · exact MM _ (fun v h0 h1 h2 h3 h4 h5 h6 h7 h8 h9 hn => ⟨by rw [h7 z]; exact y4, rfl, rfl⟩)
    · exact MM _ (fun v h0 h1 h2 h3 h4 h5 h6 h7 h8 h9 hn => ⟨by rw [h8 z]; exact y5, rfl, rfl⟩)
    · exact MM _ (fun v h0 h1 h2 h3 h4 h5 h6 h7 h8 h9 hn => ⟨by rw [h9 z]; exact y6, rfl, rfl⟩)
    · exact MM _ (fun v h0 h1 h2 h3 h4 h5 h6 h7 h8 h9 hn => ⟨(hn (no10 z0 z1 z2 z3 z4 z5 z6 z7 z8 z9)).symm, rfl, rfl⟩)
theorem op_question (hh : rh_hs wh) (hm : rh_ms wm) {Mh Mm : rhM} (R : RdA Mh Mm) (Q : RdB Mh Mm) (x1 x2 : Int) : rC2 wh YX1_question 3 [(2, 0), (0, x1), (0, x2)] Mh wm YX32_question 2 [(2, 0), (0, x1), (0, x2)] Mm (fun r M' r2 M2' => r = r2 ∧ M' = Mh ∧ M2' = rh_set Mm 0 0 0) := by
  refine rC2.of (by decide) (LE0 rfl) (by decide) (LE0 rfl) ?_
  have en : ∀ c k, 0 < c → rh_set Mm 0 0 0 c k = Mm c k := fun c k h => rh_set_a (by omega)
  have eq : (((0 ≤ x1) ∧ (x1 ≤ (4 : Int) - 1)) ∧ (Mh (563 + 18 * x1) 0 ≠ 0)) ↔ (((0 ≤ x1) ∧ (x1 ≤ 3)) ∧ (Mm 113 x1 ≠ 0)) := by
    constructor
    · rintro ⟨h1, h2⟩; exact ⟨⟨by omega, by omega⟩, (R x1 (by omega) (by omega)).1.mp h2⟩
    · rintro ⟨h1, h2⟩; exact ⟨⟨by omega, by omega⟩, (R x1 (by omega) (by omega)).1.mpr h2⟩
  refine rh2.l (rX1_question_0 hh _ _ _ ?_)
  refine ⟨⟨by omega, by omega⟩, fun _ => ⟨by omega, by omega⟩, fun c => ?_, fun c => ?_⟩
  · refine rh1.of (rX32_question_0 hm _ _ _ ?_)
    rw [en 113 _ (by decide)]
    exact ⟨fun _ => ⟨by omega, by omega⟩, fun _ => ⟨rfl, rfl, rfl⟩, fun z => absurd (fun y => c (eq.mpr y)) z⟩
  have c' := eq.mp (Classical.byContradiction c)
  obtain ⟨a1, a2⟩ := R x1 (by omega) (by omega)
  obtain ⟨b1, b2, b3⟩ := a2 c'.2
  have hx := hs_rd hh (show 0 ≤ x1 by omega) (show x1 < 4 by omega)
  refine ⟨fun d => ⟨⟨by omega, by omega⟩, ?_⟩, fun d => ?_⟩
  · have key : ∀ (m : Nat) (i b : Int), i + m = Mm 114 x1 → 0 ≤ i → (b = -1 ∨ (0 ≤ b ∧ b < i)) → ∃ v, (∀ P : Int → rhM → Prop, P v Mh → rh1 wh YX31_question 2 4 [(0, 2, 563 + 18 * x1), (1, 0, x2), (2, 0, b), (3, 0, i)] [] Mh P) ∧ ∀ P : Int → rhM → Prop, P v (rh_set Mm 0 0 0) → rh1 wm YX32_question 2 36 [(0, 2, 0), (1, 0, x1), (2, 0, x2), (3, 0, b), (4, 0, i)] [] (rh_set Mm 0 0 0) P := by
      intro m
      induction m with
      | zero =>
        intro i b hi i0 hb
        refine ⟨b, fun P HP => ?_, fun P HP => ?_⟩
        · refine rh1.of (rX31_question_4 hh _ _ _ _ _ hx ?_)
          rw [b1]
          exact ⟨fun z => by omega, fun _ => HP⟩
        · refine rh1.of (rX32_question_36 hm _ _ _ _ _ ?_)
          rw [en 114 _ (by decide)]
          exact ⟨⟨by omega, by omega⟩, fun z => by omega, fun _ => HP⟩
      | succ m ih =>
        intro i b hi i0 hb
        have W := b3 i (by omega) (by omega)
        have X := Q x1 (by omega) (by omega) c'.2 i (by omega) (by omega)
        have K1 := c_margin hh hx ⟨by omega, by omega⟩ W X
        obtain ⟨x1', x2', x3', x4', x5', x6'⟩ := X
        by_cases q : Mm 123 (80 * x1 + i) = 0 ∧ Mm 137 (6 * (80 * x1 + i) + x2) = 0
        · by_cases e : b = -1
          · obtain ⟨v, E1, E2⟩ := ih (i + 1) i (by omega) (by omega) (.inr ⟨by omega, by omega⟩)
            refine ⟨v, fun P HP => ?_, fun P HP => ?_⟩
            · refine rh1.of (rX31_question_4 hh _ _ _ _ _ hx ?_)
              rw [b1, x4', x6' x2 (by omega) (by omega)]
              refine ⟨fun _ => ⟨⟨by omega, by omega⟩, fun _ => ⟨by omega, by omega⟩, ?_⟩, fun z => by omega⟩
              intro y hy
              rw [rh_if_t q] at hy
              refine ⟨fun _ => ⟨fun z => absurd e z, fun _ => ?_⟩, fun z => by omega⟩
              intro y2 hy2
              rw [hy2]
              exact ⟨⟨by omega, by omega⟩, E1 P HP⟩
            · refine rh1.of (rX32_question_36 hm _ _ _ _ _ ?_)
              rw [en 114 _ (by decide), en 123 _ (by decide), en 137 _ (by decide)]
              refine ⟨⟨by omega, by omega⟩, fun _ => ⟨⟨by omega, by omega⟩, ⟨by omega, by omega⟩, fun _ => ⟨by omega, by omega⟩, ?_⟩, fun z => by omega⟩
              intro y hy
              rw [rh_if_t q] at hy
              refine ⟨fun _ => ⟨fun _ => ⟨by omega, by omega⟩, fun z => absurd e z, ?_⟩, fun z => by omega⟩
              intro y2 hy2
              rw [rh_if_t (.inl e)] at hy2
              rw [hy2]
              exact ⟨⟨by omega, by omega⟩, E2 P HP⟩
          · have hb' := hb.resolve_left e
            have K2 := c_margin hh hx ⟨by omega, by omega⟩ (b3 b (by omega) (by omega)) (Q x1 (by omega) (by omega) c'.2 b (by omega) (by omega))
            obtain ⟨v, E1, E2⟩ := ih (i + 1) (rh_if (Mm 122 (80 * x1 + i) < Mm 122 (80 * x1 + b)) i b) (by omega) (by omega) (by
              by_cases u : Mm 122 (80 * x1 + i) < Mm 122 (80 * x1 + b)
              · rw [rh_if_t u]; exact .inr ⟨by omega, by omega⟩
              · rw [rh_if_f u]; exact .inr ⟨by omega, by omega⟩)
            refine ⟨v, fun P HP => ?_, fun P HP => ?_⟩
            · refine rh1.of (rX31_question_4 hh _ _ _ _ _ hx ?_)
              rw [b1, x4', x6' x2 (by omega) (by omega)]
              refine ⟨fun _ => ⟨⟨by omega, by omega⟩, fun _ => ⟨by omega, by omega⟩, ?_⟩, fun z => by omega⟩
              intro y hy
              rw [rh_if_t q] at hy
              refine ⟨fun _ => ⟨fun _ => ?_, fun z => absurd e z⟩, fun z => by omega⟩
              refine rh1.s (vX31_question_57 hx K1 (LE0 rfl)) ?_
              refine rh1.of (rX31_question_60 hh _ _ _ _ _ _ hx ?_)
              refine rh1.s (vX31_question_62 hx K2 (LE0 rfl)) ?_
              refine rh1.of (rX31_question_65 hh _ _ _ _ _ _ _ hx ?_)
              intro y2 hy2
              rw [hy2]
              exact ⟨⟨by omega, by omega⟩, E1 P HP⟩
            · refine rh1.of (rX32_question_36 hm _ _ _ _ _ ?_)
              rw [en 114 _ (by decide), en 123 _ (by decide), en 137 _ (by decide), en 122 _ (by decide), en 122 _ (by decide)]
              refine ⟨⟨by omega, by omega⟩, fun _ => ⟨⟨by omega, by omega⟩, ⟨by omega, by omega⟩, fun _ => ⟨by omega, by omega⟩, ?_⟩, fun z => by omega⟩
              intro y hy
              rw [rh_if_t q] at hy
              refine ⟨fun _ => ⟨fun _ => ⟨by omega, by omega⟩, fun _ => ⟨by omega, by omega⟩, ?_⟩, fun z => by omega⟩
              intro y2 hy2
              have ey : y2 = rh_if (Mm 122 (80 * x1 + i) < Mm 122 (80 * x1 + b)) i b := by
                rw [hy2]
                by_cases u : Mm 122 (80 * x1 + i) < Mm 122 (80 * x1 + b)
                · rw [rh_if_t u, rh_if_t (.inr u)]
                · rw [rh_if_f u, rh_if_f (fun z => z.elim e u)]
              rw [ey]
              exact ⟨⟨by omega, by omega⟩, E2 P HP⟩
        · obtain ⟨v, E1, E2⟩ := ih (i + 1) b (by omega) (by omega) (by rcases hb with h | h; exact .inl h; exact .inr ⟨by omega, by omega⟩)
          refine ⟨v, fun P HP => ?_, fun P HP => ?_⟩
          · refine rh1.of (rX31_question_4 hh _ _ _ _ _ hx ?_)
            rw [b1, x4', x6' x2 (by omega) (by omega)]
            refine ⟨fun _ => ⟨⟨by omega, by omega⟩, fun _ => ⟨by omega, by omega⟩, ?_⟩, fun z => by omega⟩
            intro y hy
            rw [rh_if_f q] at hy
            refine ⟨fun z => absurd hy z, fun _ => ?_⟩
            intro y2 hy2
            rw [hy2]
            exact ⟨⟨by omega, by omega⟩, E1 P HP⟩
          · refine rh1.of (rX32_question_36 hm _ _ _ _ _ ?_)
            rw [en 114 _ (by decide), en 123 _ (by decide), en 137 _ (by decide)]
            refine ⟨⟨by omega, by omega⟩, fun _ => ⟨⟨by omega, by omega⟩, ⟨by omega, by omega⟩, fun _ => ⟨by omega, by omega⟩, ?_⟩, fun z => by omega⟩
            intro y hy
            rw [rh_if_f q] at hy
            refine ⟨fun z => absurd hy z, fun _ => ?_⟩
            intro y2 hy2
            rw [hy2]
            exact ⟨⟨by omega, by omega⟩, E2 P HP⟩
    obtain ⟨v, E1, E2⟩ := key (Mm 114 x1).toNat 0 (-1) (by omega) (by omega) (.inl rfl)
    have K : eC wh YX31_question 2 [(2, 563 + 18 * x1), (0, x2)] Mh v Mh := eC.of1 (rC1.of (by decide) (LE0 rfl) (by
      refine rh1.of (rX31_question_0 hh _ _ _ hx ?_)
      exact E1 _ ⟨rfl, rfl⟩))
    refine rh2.sl (vX1_question_32 hx K (LE0 rfl)) ?_
    refine rh2.l (rX1_question_35 hh _ _ ?_)
    refine rh1.of (rX32_question_0 hm _ _ _ ?_)
    rw [en 113 _ (by decide)]
    exact ⟨fun _ => ⟨by omega, by omega⟩, fun z => absurd c' z, fun _ => ⟨fun z => absurd d z, fun _ => E2 _ ⟨rfl, rfl, rfl⟩⟩⟩
  · refine rh1.of (rX32_question_0 hm _ _ _ ?_)
    rw [en 113 _ (by decide)]
    exact ⟨fun _ => ⟨by omega, by omega⟩, fun z => absurd c' z, fun _ => ⟨fun _ => ⟨rfl, rfl, rfl⟩, fun z => absurd d z⟩⟩
end Reads2
