/-! ===== LAYER 2: forms: form, dot, node; learn ===== -/
section Forms
variable {wh wm : rhW}
theorem and1 (z : Int) : rh_and z 1 = 0 ∨ rh_and z 1 = 1 := by
  have this : ∀ b : BitVec 32, (b &&& 1#32).toInt = 0 ∨ (b &&& 1#32).toInt = 1 := by
    intro b
    have h : (b &&& 1#32).toNat = b.toNat % 2 := by
      rw [BitVec.toNat_and]; exact Nat.and_one_is_mod _
    have h2 : (b &&& 1#32).toInt = ((b.toNat % 2 : Nat) : Int) := by
      rw [BitVec.toInt_eq_toNat_of_lt (by rw [h]; omega), h]
    rw [h2]; omega
  exact this (rhI z).toBitVec
/-- forms on both sides -/
def FmR (Mh Mm : rhM) (f : Int) : Prop := (Mh 42 f = Mm 63 f ∧ 0 ≤ Mm 63 f ∧ Mm 63 f ≤ 3) ∧ (Mh 43 f = Mm 64 f ∧ 33 ≤ Mm 64 f ∧ Mm 64 f ≤ 126) ∧ (Mh 44 f = Mm 65 f ∧ 1 ≤ Mm 65 f ∧ Mm 65 f ≤ 24) ∧ (Mh 45 f = Mm 66 f ∧ 1 ≤ Mm 66 f ∧ Mm 66 f ≤ 24) ∧ (Mh 46 f = Mm 67 f ∧ 0 ≤ Mm 67 f ∧ Mm 67 f ≤ 96) ∧ (∀ k, 0 ≤ k → k < 19 → Mh 47 (19 * f + k) = Mm 68 (19 * f + k) ∧ 0 ≤ Mm 68 (19 * f + k) ∧ Mm 68 (19 * f + k) ≤ 255) ∧ (∀ y, 0 ≤ y → y < 24 → Mh 48 (24 * f + y) = Mm 69 (24 * f + y))
def Rfm (Mh Mm : rhM) : Prop := Mh 41 0 = Mm 0 89 ∧ (0 ≤ Mm 0 89 ∧ Mm 0 89 ≤ 150) ∧ ∀ f, 0 ≤ f → f < Mm 0 89 → FmR Mh Mm f
theorem FmR.fx {Mh Mm Mh' Mm' : rhM} {f : Int} (h : FmR Mh Mm f) (h1 : ∀ c : Int, 42 ≤ c → c ≤ 46 → Mh' c f = Mh c f) (h2 : ∀ j, 19 * f ≤ j → j < 19 * f + 19 → Mh' 47 j = Mh 47 j) (h3 : ∀ j, 24 * f ≤ j → j < 24 * f + 24 → Mh' 48 j = Mh 48 j) (g1 : ∀ c : Int, 63 ≤ c → c ≤ 67 → Mm' c f = Mm c f) (g2 : ∀ j, 19 * f ≤ j → j < 19 * f + 19 → Mm' 68 j = Mm 68 j) (g3 : ∀ j, 24 * f ≤ j → j < 24 * f + 24 → Mm' 69 j = Mm 69 j) : FmR Mh' Mm' f := by
  obtain ⟨a1, a2, a3, a4, a5, a6, a7⟩ := h
  unfold FmR
  rw [h1 42 (by omega) (by omega), h1 43 (by omega) (by omega), h1 44 (by omega) (by omega), h1 45 (by omega) (by omega), h1 46 (by omega) (by omega), g1 63 (by omega) (by omega), g1 64 (by omega) (by omega), g1 65 (by omega) (by omega), g1 66 (by omega) (by omega), g1 67 (by omega) (by omega)]
  refine ⟨a1, a2, a3, a4, a5, fun k k0 k1 => ?_, fun y y0 y1 => ?_⟩
  · rw [h2 _ (by omega) (by omega), g2 _ (by omega) (by omega)]; exact a6 k k0 k1
  · rw [h3 _ (by omega) (by omega), g3 _ (by omega) (by omega)]; exact a7 y y0 y1
theorem op_form (hh : rh_hs wh) (hm : rh_ms wm) {Mh Mm : rhM} (R : Rfm Mh Mm) (x1 x2 : Int) : rC2 wh YX1_form 2 [(2, 0), (0, x1), (0, x2)] Mh wm YX32_form 1 [(2, 0), (0, x1), (0, x2)] Mm (fun r M' r2 M2' => r = r2 ∧ M' = Mh ∧ M2' = rh_set Mm 0 0 0) := by
  refine rC2.of (by decide) (LE0 rfl) (by decide) (LE0 rfl) ?_
  obtain ⟨r1, r2, r3⟩ := R
  have en : ∀ c j, 0 < c → rh_set Mm 0 0 0 c j = Mm c j := fun c j h => rh_set_a (by omega)
  have e89 : rh_set Mm 0 0 0 0 89 = Mm 0 89 := rh_set_j (by decide)
  refine rh2.l (rX1_form_0 hh _ _ _ ?_)
  rw [r1]
  refine ⟨⟨by omega, by omega⟩, fun c => ?_, fun c => ?_⟩
  · refine rh1.of (rX32_form_0 hm _ _ _ ?_)
    rw [e89]
    exact ⟨⟨by omega, by omega⟩, fun _ => ⟨rfl, rfl, rfl⟩, fun z => absurd c z⟩
  · have hf : 0 ≤ x1 ∧ x1 < Mm 0 89 := ⟨by omega, by omega⟩
    obtain ⟨a1, a2, a3, a4, a5, a6, a7⟩ := r3 x1 hf.1 hf.2
    have hr : 0 ≤ x1 ∧ x1 < 150 := ⟨by omega, by omega⟩
    rw [a1.1, a2.1, a3.1, a4.1, a5.1]
    have M0 : ∀ (P : Int → rhM → Prop), (∀ r, (x2 = 0 → r = Mm 63 x1) → (x2 = 1 → r = Mm 64 x1) → (x2 = 2 → r = Mm 65 x1) → (x2 = 3 → r = Mm 66 x1) → (x2 = 4 → r = Mm 67 x1) → (¬ (0 ≤ x2 ∧ x2 ≤ 4) → r = rh_if ((5 ≤ x2) ∧ (x2 ≤ 23)) (Mm 68 (((19 * x1) + x2) - 5)) (-102)) → P r (rh_set Mm 0 0 0)) → rh1 wm YX32_form 1 0 [(0, 2, 0), (1, 0, x1), (2, 0, x2)] [] Mm P := by
      intro P HP
      refine rh1.of (rX32_form_0 hm _ _ _ ?_)
      rw [e89, en 63 _ (by decide), en 64 _ (by decide), en 65 _ (by decide), en 66 _ (by decide), en 67 _ (by decide), en 68 _ (by decide)]
      refine ⟨⟨by omega, by omega⟩, fun z => absurd z c, fun _ => ⟨fun z => ⟨hr, HP _ ?_ ?_ ?_ ?_ ?_ ?_⟩, fun z0 => ⟨fun z => ⟨hr, HP _ ?_ ?_ ?_ ?_ ?_ ?_⟩, fun z1 => ⟨fun z => ⟨hr, HP _ ?_ ?_ ?_ ?_ ?_ ?_⟩, fun z2 => ⟨fun z => ⟨hr, HP _ ?_ ?_ ?_ ?_ ?_ ?_⟩, fun z3 => ⟨fun z => ⟨hr, HP _ ?_ ?_ ?_ ?_ ?_ ?_⟩, fun z4 => ⟨fun z => ⟨by omega, by omega⟩, HP _ ?_ ?_ ?_ ?_ ?_ ?_⟩⟩⟩⟩⟩⟩⟩
      all_goals first
        | exact fun _ => rfl
        | exact fun y => absurd y (by omega)
    refine ⟨fun z => ⟨hr, ?_⟩, fun z0 => ⟨fun z => ⟨hr, ?_⟩, fun z1 => ⟨fun z => ⟨hr, ?_⟩, fun z2 => ⟨fun z => ⟨hr, ?_⟩, fun z3 => ⟨fun z => ⟨hr, ?_⟩, fun z4 => ⟨fun z => ⟨by omega, by omega⟩, ?_⟩⟩⟩⟩⟩⟩
    all_goals refine M0 _ (fun r h0 h1 h2 h3 h4 h5 => ⟨?_, rfl, rfl⟩)
    · exact (h0 z).symm
    · exact (h1 z).symm
    · exact (h2 z).symm
    · exact (h3 z).symm
    · exact (h4 z).symm
    · rw [h5 (by omega)]
      by_cases q : 5 ≤ x2 ∧ x2 ≤ 23
      · rw [rh_if_t q, rh_if_t q, show 19 * x1 + x2 - 5 = 19 * x1 + (x2 - 5) by omega, (a6 (x2 - 5) (by omega) (by omega)).1]
      · rw [rh_if_f q, rh_if_f q]
theorem op_dot (hh : rh_hs wh) (hm : rh_ms wm) {Mh Mm : rhM} (R : Rfm Mh Mm) (x1 x2 x3 : Int) : rC2 wh YX1_dot 2 [(2, 0), (0, x1), (0, x2), (0, x3)] Mh wm YX32_dot 1 [(2, 0), (0, x1), (0, x2), (0, x3)] Mm (fun r M' r2 M2' => r = r2 ∧ M' = Mh ∧ M2' = rh_set Mm 0 0 0) := by
  refine rC2.of (by decide) (LE0 rfl) (by decide) (LE0 rfl) ?_
  obtain ⟨r1, r2, r3⟩ := R
  have en : ∀ c j, 0 < c → rh_set Mm 0 0 0 c j = Mm c j := fun c j h => rh_set_a (by omega)
  have e89 : rh_set Mm 0 0 0 0 89 = Mm 0 89 := rh_set_j (by decide)
  refine rh2.l (rX1_dot_0 hh _ _ _ _ ?_)
  rw [r1]
  refine ⟨⟨by omega, by omega⟩, fun c => ?_, fun c => ?_⟩
  · refine rh1.of (rX32_dot_0 hm _ _ _ _ ?_)
    rw [e89]
    exact ⟨⟨by omega, by omega⟩, fun _ => ⟨rfl, rfl, rfl⟩, fun z => absurd c z⟩
  · have hf : 0 ≤ x1 ∧ x1 < Mm 0 89 := ⟨by omega, by omega⟩
    obtain ⟨-, -, a3, a4, -, -, a7⟩ := r3 x1 hf.1 hf.2
    have hr : 0 ≤ x1 ∧ x1 < 150 := ⟨by omega, by omega⟩
    rw [a3.1, a4.1]
    refine ⟨hr, ⟨by omega, by omega⟩, fun _ => hr, fun _ => ⟨by omega, by omega⟩, fun d => ?_, fun d => ?_⟩
    · refine rh1.of (rX32_dot_0 hm _ _ _ _ ?_)
      rw [e89, en 65 _ (by decide), en 66 _ (by decide), en 69 _ (by decide)]
      refine ⟨⟨by omega, by omega⟩, fun z => absurd z c, fun _ => ⟨hr, ⟨by omega, by omega⟩, fun _ => hr, fun _ => ⟨by omega, by omega⟩, fun y => ⟨by omega, by omega⟩, ?_, rfl, rfl⟩⟩
      rw [rh_if_f (by omega)]
    · rw [a7 x3 (by omega) (by omega)]
      refine ⟨⟨by omega, by omega⟩, ?_⟩
      refine rh1.of (rX32_dot_0 hm _ _ _ _ ?_)
      rw [e89, en 65 _ (by decide), en 66 _ (by decide), en 69 _ (by decide)]
      refine ⟨⟨by omega, by omega⟩, fun z => absurd z c, fun _ => ⟨hr, ⟨by omega, by omega⟩, fun _ => hr, fun _ => ⟨by omega, by omega⟩, fun y => ⟨by omega, by omega⟩, ?_, rfl, rfl⟩⟩
      rw [rh_if_t (show ((0 ≤ x2) ∧ (x2 ≤ ((Mm 65 x1) - 1))) ∧ ((0 ≤ x3) ∧ (x3 ≤ ((Mm 66 x1) - 1))) by omega)]
      rcases and1 (rh_shr (Mm 69 (24 * x1 + x3)) x2) with e | e
      · rw [e, rh_if_f (by decide)]
      · rw [e, rh_if_t rfl]
/-- trees on both sides -/
def Rtr (Mh Mm : rhM) : Prop := ∀ f, 0 ≤ f → f < 4 → Mh 49 f = Mm 75 f ∧ (0 ≤ Mm 75 f ∧ Mm 75 f ≤ 300) ∧ ∀ n, 0 ≤ n → n < Mm 75 f → Mh 50 (300 * f + n) = Mm 76 (300 * f + n) ∧ Mh 51 (300 * f + n) = Mm 77 (300 * f + n) ∧ Mh 52 (300 * f + n) = Mm 78 (300 * f + n) ∧ Mh 53 (300 * f + n) = Mm 79 (300 * f + n) ∧ Mh 54 (300 * f + n) = Mm 80 (300 * f + n) ∧ (Mm 76 (300 * f + n) = -1 ∨ ((0 ≤ Mm 76 (300 * f + n) ∧ Mm 76 (300 * f + n) < 19) ∧ n < Mm 78 (300 * f + n) ∧ Mm 78 (300 * f + n) + 1 < Mm 75 f)) ∧ (0 ≤ Mm 79 (300 * f + n) ∧ Mm 79 (300 * f + n) < 128)
theorem op_node (hh : rh_hs wh) (hm : rh_ms wm) {Mh Mm : rhM} (R : Rtr Mh Mm) (x1 x2 x3 : Int) : rC2 wh YX1_node 2 [(2, 0), (0, x1), (0, x2), (0, x3)] Mh wm YX32_node 1 [(2, 0), (0, x1), (0, x2), (0, x3)] Mm (fun r M' r2 M2' => r = r2 ∧ M' = Mh ∧ M2' = rh_set Mm 0 0 0) := by
  refine rC2.of (by decide) (LE0 rfl) (by decide) (LE0 rfl) ?_
  have en : ∀ c j, 0 < c → rh_set Mm 0 0 0 c j = Mm c j := fun c j h => rh_set_a (by omega)
  refine rh2.l (rX1_node_0 hh _ _ _ _ ?_)
  refine ⟨fun c => ?_, fun c => ?_⟩
  · refine rh1.of (rX32_node_0 hm _ _ _ _ ?_)
    refine ⟨fun _ => ⟨rfl, rfl, rfl⟩, fun d => ⟨fun _ => ⟨rfl, rfl, rfl⟩, fun e => ?_⟩⟩
    omega
  · have h1 : 0 ≤ x1 ∧ x1 < 4 := ⟨by omega, by omega⟩
    have h3 : 0 ≤ x3 ∧ x3 ≤ 4 := ⟨by omega, by omega⟩
    obtain ⟨r1, r2, r3⟩ := R x1 h1.1 h1.2
    rw [r1]
    refine ⟨h1, fun d => ?_, fun d => ⟨h1, ⟨by omega, by omega⟩, fun e => ?_, fun e => ?_⟩⟩
    · refine rh1.of (rX32_node_0 hm _ _ _ _ ?_)
      rw [en 75 _ (by decide)]
      exact ⟨fun z => by omega, fun _ => ⟨fun z => by omega, fun _ => ⟨h1, fun _ => ⟨rfl, rfl, rfl⟩, fun z => absurd d z⟩⟩⟩
    · obtain ⟨a1, a2, a3, a4, a5, -⟩ := r3 x2 e.1 (by omega)
      have hq : 0 ≤ 300 * x1 + x2 ∧ 300 * x1 + x2 < 1200 := ⟨by omega, by omega⟩
      have E : eC wh YX17_nodeAt 0 [(2, 41), (0, x1), (0, x2), (0, x3)] Mh (rh_if (x3 = 0) (Mm 76 (300 * x1 + x2)) (rh_if (x3 = 1) (Mm 77 (300 * x1 + x2)) (rh_if (x3 = 2) (Mm 78 (300 * x1 + x2)) (rh_if (x3 = 3) (Mm 79 (300 * x1 + x2)) (Mm 80 (300 * x1 + x2)))))) Mh := by
        refine eC.of1 (rC1.of (by decide) (LE0 rfl) ?_)
        refine rh1.of (rX17_nodeAt_0 hh _ _ _ _ ?_)
        rw [a1, a2, a3, a4, a5]
        refine ⟨⟨by omega, by omega⟩, fun z => ⟨hq, ?_, rfl⟩, fun z0 => ⟨fun z => ⟨hq, ?_, rfl⟩, fun z1 => ⟨fun z => ⟨hq, ?_, rfl⟩, fun z2 => ⟨fun _ => hq, fun _ => hq, ?_, rfl⟩⟩⟩⟩
        · rw [rh_if_t z]
        · rw [rh_if_f z0, rh_if_t z]
        · rw [rh_if_f z0, rh_if_f z1, rh_if_t z]
        · rw [rh_if_f z0, rh_if_f z1, rh_if_f z2]
      refine rh2.sl (vX1_node_65 hh E (LE0 rfl)) ?_
      refine rh2.l (rX1_node_68 hh _ _ ?_)
      refine rh1.of (rX32_node_0 hm _ _ _ _ ?_)
      rw [en 75 _ (by decide), en 76 _ (by decide), en 77 _ (by decide), en 78 _ (by decide), en 79 _ (by decide), en 80 _ (by decide)]
      refine ⟨fun z => by omega, fun _ => ⟨fun z => by omega, fun _ => ⟨h1, fun z => absurd z d, fun _ => ⟨h1, ⟨by omega, by omega⟩, fun z => absurd e z, fun _ => ⟨⟨by omega, by omega⟩, fun z => ⟨hq, ?_, rfl, rfl⟩, fun z0 => ⟨fun z => ⟨hq, ?_, rfl, rfl⟩, fun z1 => ⟨fun z => ⟨hq, ?_, rfl, rfl⟩, fun z2 => ⟨fun _ => hq, fun _ => hq, ?_, rfl, rfl⟩⟩⟩⟩⟩⟩⟩⟩
      · rw [rh_if_t z]
      · rw [rh_if_f z0, rh_if_t z]
      · rw [rh_if_f z0, rh_if_f z1, rh_if_t z]
      · rw [rh_if_f z0, rh_if_f z1, rh_if_f z2]
    · refine rh1.of (rX32_node_0 hm _ _ _ _ ?_)
      rw [en 75 _ (by decide)]
      exact ⟨fun z => by omega, fun _ => ⟨fun z => by omega, fun _ => ⟨h1, fun z => absurd z d, fun _ => ⟨h1, ⟨by omega, by omega⟩, fun _ => ⟨rfl, rfl, rfl⟩, fun z => absurd e z⟩⟩⟩⟩
end Forms
