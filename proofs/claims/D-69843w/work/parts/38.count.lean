/-! ===== LAYER 2: count ===== -/
section Count
variable {wh wm : rhW}
/-- how many there are of what -/
def Rcnt (Mh Mm : rhM) : Prop := Mh 41 0 = Mm 0 89 ∧ Mh 63 1 = Mm 0 120 ∧ Mh 98 1 = Mm 0 186 ∧ Mh 233 2 = Mm 0 252 ∧ Mh 1 2 = Mm 0 2 ∧ Mh 4 1 = Mm 0 4 ∧ Mh 221 0 = Mm 0 231 ∧ 0 ≤ Mh 233 2 ∧ Mh 233 2 < 41 ∧ Mh 235 (Mh 233 2) = Mm 0 253
theorem op_count (hh : rh_hs wh) (hm : rh_ms wm) {Mh Mm : rhM} (R : Rcnt Mh Mm) (x1 : Int) : rC2 wh YX1_count 1 [(2, 0), (0, x1)] Mh wm YX32_count 0 [(2, 0), (0, x1)] Mm (fun r M' r2 M2' => r = r2 ∧ M' = Mh ∧ M2' = rh_set Mm 0 0 0) := by
  obtain ⟨c0, c1, c2, c3, c4, c5, c6, c7, c8, c9⟩ := R
  have e : ∀ j : Int, j ≠ 0 → rh_set Mm 0 0 0 0 j = Mm 0 j := fun j hj => rh_set_j hj
  refine rC2.of (by decide) (LE0 rfl) (by decide) (LE0 rfl) ?_
  have M0 : ∀ r : Int, (x1 = 0 → r = Mm 0 89) → (x1 = 1 → r = Mm 0 120) → (x1 = 2 → r = Mm 0 186) → (x1 = 3 → r = Mm 0 252) → (x1 = 4 → r = Mm 0 2) → (x1 = 5 → r = Mm 0 4) → (x1 = 6 → r = Mm 0 231) → (x1 = 7 → r = Mm 0 253) → (¬ (0 ≤ x1 ∧ x1 ≤ 7) → r = -102) →
      rh1 wm YX32_count 0 0 [(0, 2, 0), (1, 0, x1)] [] Mm (fun r2 M2' => r = r2 ∧ Mh = Mh ∧ M2' = rh_set Mm 0 0 0) := by
    intro r h0 h1 h2 h3 h4 h5 h6 h7 h8
    refine rh1.of (rX32_count_0 hm _ _ ?_)
    rw [e 89 (by decide), e 120 (by decide), e 186 (by decide), e 252 (by decide), e 2 (by decide), e 4 (by decide), e 231 (by decide), e 253 (by decide)]
    exact ⟨fun d => ⟨h0 d, rfl, rfl⟩, fun d0 => ⟨fun d => ⟨h1 d, rfl, rfl⟩, fun d1 => ⟨fun d => ⟨h2 d, rfl, rfl⟩, fun d2 => ⟨fun d => ⟨h3 d, rfl, rfl⟩, fun d3 => ⟨fun d => ⟨h4 d, rfl, rfl⟩, fun d4 => ⟨fun d => ⟨h5 d, rfl, rfl⟩, fun d5 => ⟨fun d => ⟨h6 d, rfl, rfl⟩, fun d6 => ⟨fun d => ⟨h7 d, rfl, rfl⟩, fun d7 => ⟨h8 (by omega), rfl, rfl⟩⟩⟩⟩⟩⟩⟩⟩⟩
  refine rh2.l (rX1_count_0 hh _ _ ⟨fun d => ?_, fun d0 => ⟨fun d => ?_, fun d1 => ⟨fun d => ?_, fun d2 => ⟨fun d => ?_, fun d3 => ⟨fun d => ?_, fun d4 => ⟨fun d => ?_, fun d5 => ⟨fun d => ?_, fun d6 => ⟨fun d => ⟨⟨c7, c8⟩, ?_⟩, fun d7 => ?_⟩⟩⟩⟩⟩⟩⟩⟩)
  all_goals refine M0 _ ?_ ?_ ?_ ?_ ?_ ?_ ?_ ?_ ?_ <;> omega
end Count
