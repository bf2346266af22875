/-! ===== LAYER 2: readings: readWords, sumOf, why ===== -/
section Reads
variable {wh wm : rhW}
/-- a word of a reading: its choices, the first one's way (x: the house's reading, k: the model's number of the word) -/
def RdW (Mh Mm : rhM) (x k i : Int) : Prop := (Mh (x + 1) i = Mm 121 k ∧ 1 ≤ Mm 121 k ∧ Mm 121 k ≤ 4) ∧ (∀ n, 0 ≤ n → n < Mm 121 k → (Mh (x + 2) (4 * i + n) = Mm 124 (4 * k + n) ∧ 0 ≤ Mm 124 (4 * k + n) ∧ Mm 124 (4 * k + n) ≤ 1000000) ∧ (Mh (x + 5) (4 * i + n) = Mm 125 (4 * k + n) ∧ 1 ≤ Mm 125 (4 * k + n) ∧ Mm 125 (4 * k + n) ≤ 12) ∧ ∀ t, 0 ≤ t → t < Mm 125 (4 * k + n) → Mh (x + 4) (12 * (4 * i + n) + t) = Mm 126 (12 * (4 * k + n) + t) ∧ 33 ≤ Mm 126 (12 * (4 * k + n) + t) ∧ Mm 126 (12 * (4 * k + n) + t) ≤ 126) ∧ (Mh (x + 9) i = Mm 129 k ∧ 0 ≤ Mm 129 k ∧ Mm 129 k ≤ 12) ∧ ∀ j, 0 ≤ j → j < Mm 129 k → Mh (x + 10) (7 * (12 * i + j) + 0) = Mm 130 (12 * k + j) ∧ Mh (x + 10) (7 * (12 * i + j) + 1) = Mm 131 (12 * k + j) ∧ Mh (x + 10) (7 * (12 * i + j) + 2) = Mm 126 (48 * k + j) ∧ Mh (x + 10) (7 * (12 * i + j) + 3) = Mm 132 (12 * k + j) ∧ Mh (x + 10) (7 * (12 * i + j) + 4) = Mm 133 (12 * k + j) ∧ Mh (x + 10) (7 * (12 * i + j) + 5) = Mm 134 (12 * k + j) ∧ Mh (x + 10) (7 * (12 * i + j) + 6) = Mm 135 (12 * k + j)
def RdR (Mh Mm : rhM) (r : Int) : Prop := (Mh (563 + 18 * r) 0 ≠ 0 ↔ Mm 113 r ≠ 0) ∧ (Mm 113 r ≠ 0 → Mh (563 + 18 * r) 1 = Mm 114 r ∧ (0 ≤ Mm 114 r ∧ Mm 114 r ≤ 80) ∧ ∀ i, 0 ≤ i → i < Mm 114 r → RdW Mh Mm (563 + 18 * r) (80 * r + i) i)
def RdA (Mh Mm : rhM) : Prop := ∀ r, 0 ≤ r → r < 4 → RdR Mh Mm r
theorem op_readWords (hh : rh_hs wh) (hm : rh_ms wm) {Mh Mm : rhM} (R : RdA Mh Mm) (x1 : Int) : rC2 wh YX1_readWords 2 [(2, 0), (0, x1)] Mh wm YX32_readWords 2 [(2, 0), (0, x1)] Mm (fun r M' r2 M2' => r = r2 ∧ M' = Mh ∧ M2' = rh_set Mm 0 0 0) := by
  have e3 : ∀ k, rh_set Mm 0 0 0 113 k = Mm 113 k := fun k => rh_set_a (by decide)
  have e4 : ∀ k, rh_set Mm 0 0 0 114 k = Mm 114 k := fun k => rh_set_a (by decide)
  refine ⟨_, _, _, _, (icX1_readWords hh).eC [0, x1] Mh rfl (fun q hq => by cases hq) ?_, (icX32_readWords hm).eC [0, x1] Mm rfl (fun q hq => by cases hq) ?_, ?_, rfl, rfl⟩
  · have h1 : rI ((4 : Int) - 1) := ⟨by omega, by omega⟩
    have h2 : ((0 ≤ x1) ∧ (x1 ≤ (4 : Int) - 1)) → ((0 ≤ x1) ∧ (x1 < 4)) := by omega
    have h3 : (((0 ≤ x1) ∧ (x1 ≤ (4 : Int) - 1)) ∧ (Mh (563 + 18 * x1) 0 ≠ 0)) → ((0 ≤ x1) ∧ (x1 < 4)) := by omega
    intro o ho
    simp only [ioX1_readWords, List.mem_cons, List.not_mem_nil, or_false] at ho
    rcases ho with rfl | rfl | rfl | rfl
    · exact (rfl : (0 : Int) = 0)
    · exact h1
    · exact h2
    · exact h3
  · have h2 : ((0 ≤ x1) ∧ (x1 ≤ 3)) → ((0 ≤ x1) ∧ (x1 < 4)) := by omega
    have h3 : (((0 ≤ x1) ∧ (x1 ≤ 3)) ∧ (rh_set Mm 0 0 0 113 x1 ≠ 0)) → ((0 ≤ x1) ∧ (x1 < 4)) := by omega
    intro o ho
    simp only [ioX32_readWords, List.mem_cons, List.not_mem_nil, or_false] at ho
    rcases ho with rfl | rfl | rfl
    · exact (rfl : (0 : Int) = 0)
    · exact h2
    · exact h3
  · show rh_if (((0 ≤ x1) ∧ (x1 ≤ (4 : Int) - 1)) ∧ (Mh (563 + 18 * x1) 0 ≠ 0)) (Mh (563 + 18 * x1) 1) (-101) = rh_if (((0 ≤ x1) ∧ (x1 ≤ 3)) ∧ (rh_set Mm 0 0 0 113 x1 ≠ 0)) (rh_set Mm 0 0 0 114 x1) (-101)
    rw [e3, e4]
    by_cases z : (0 ≤ x1) ∧ (x1 ≤ 3)
    · obtain ⟨a1, a2⟩ := R x1 (by omega) (by omega)
      by_cases y : Mm 113 x1 ≠ 0
      · rw [rh_if_t ⟨⟨by omega, by omega⟩, a1.mpr y⟩, rh_if_t ⟨z, y⟩]; exact (a2 y).1
      · rw [rh_if_f (fun u => y (a1.mp u.2)), rh_if_f (fun u => y u.2)]
    · rw [rh_if_f (fun u => z ⟨by omega, by omega⟩), rh_if_f (fun u => z u.1)]
/-- is there a word i in the reading -/
theorem RdA.at {Mh Mm : rhM} (R : RdA Mh Mm) (x1 x2 : Int) : ((((0 ≤ x1) ∧ (x1 ≤ (4 : Int) - 1)) ∧ (Mh (563 + 18 * x1) 0 ≠ 0)) ∧ ((0 ≤ x2) ∧ (x2 ≤ Mh (563 + 18 * x1) 1 - 1))) ↔ ((((0 ≤ x1) ∧ (x1 ≤ 3)) ∧ (Mm 113 x1 ≠ 0)) ∧ ((0 ≤ x2) ∧ (x2 ≤ Mm 114 x1 - 1))) := by
  constructor
  · rintro ⟨⟨h1, h2⟩, h3⟩
    obtain ⟨a1, a2⟩ := R x1 (by omega) (by omega)
    have y := a1.mp h2
    have e := (a2 y).1
    exact ⟨⟨⟨by omega, by omega⟩, y⟩, ⟨by omega, by omega⟩⟩
  · rintro ⟨⟨h1, h2⟩, h3⟩
    obtain ⟨a1, a2⟩ := R x1 (by omega) (by omega)
    have e := (a2 h2).1
    exact ⟨⟨⟨by omega, by omega⟩, a1.mpr h2⟩, ⟨by omega, by omega⟩⟩
theorem RdA.ob {Mh Mm : rhM} (R : RdA Mh Mm) {x1 : Int} (h : ((0 ≤ x1) ∧ (x1 ≤ (4 : Int) - 1)) ∧ (Mh (563 + 18 * x1) 0 ≠ 0)) : rI (Mh (563 + 18 * x1) 1 - 1) := by
  obtain ⟨a1, a2⟩ := R x1 (by omega) (by omega)
  have := a2 (a1.mp h.2)
  exact ⟨by omega, by omega⟩
theorem RdA.om {Mh Mm : rhM} (R : RdA Mh Mm) {x1 : Int} (h : ((0 ≤ x1) ∧ (x1 ≤ 3)) ∧ (Mm 113 x1 ≠ 0)) : rI (Mm 114 x1 - 1) := by
  obtain ⟨a1, a2⟩ := R x1 (by omega) (by omega)
  have := a2 h.2
  exact ⟨by omega, by omega⟩
theorem op_sumOf (hh : rh_hs wh) (hm : rh_ms wm) {Mh Mm : rhM} (R : RdA Mh Mm) (x1 x2 x3 : Int) : rC2 wh YX1_sumOf 3 [(2, 0), (0, x1), (0, x2), (0, x3)] Mh wm YX32_sumOf 3 [(2, 0), (0, x1), (0, x2), (0, x3)] Mm (fun r M' r2 M2' => r = r2 ∧ M' = Mh ∧ M2' = rh_set Mm 0 0 0) := by
  refine rC2.of (by decide) (LE0 rfl) (by decide) (LE0 rfl) ?_
  have en : ∀ c k, 0 < c → rh_set Mm 0 0 0 c k = Mm c k := fun c k h => rh_set_a (by omega)
  have at' := R.at x1 x2
  refine rh2.l (rX1_sumOf_0 hh _ _ _ _ ?_)
  refine ⟨⟨by omega, by omega⟩, fun _ => ⟨by omega, by omega⟩, fun _ => ⟨by omega, by omega⟩, fun z => R.ob z, fun c => ?_, fun c => ?_⟩
  · refine rh1.of (rX32_sumOf_0 hm _ _ _ _ ?_)
    rw [en 113 _ (by decide), en 114 _ (by decide)]
    exact ⟨fun _ => ⟨by omega, by omega⟩, fun _ => ⟨by omega, by omega⟩, fun z => R.om z, fun _ => ⟨rfl, rfl, rfl⟩, fun z => absurd (fun y => c (at'.mpr y)) z⟩
  · have c' := at'.mp (Classical.byContradiction c)
    obtain ⟨a1, a2⟩ := R x1 (by omega) (by omega)
    obtain ⟨b1, b2, b3⟩ := a2 c'.1.2
    obtain ⟨w1, w2, w3, w4⟩ := b3 x2 (by omega) (by omega)
    rw [w1.1]
    refine ⟨⟨by omega, by omega⟩, ⟨by omega, by omega⟩, ⟨by omega, by omega⟩, fun _ => ⟨by omega, by omega⟩, fun _ => ⟨by omega, by omega⟩, ?_⟩
    refine rh1.of (rX32_sumOf_0 hm _ _ _ _ ?_)
    rw [en 113 _ (by decide), en 114 _ (by decide), en 121 _ (by decide), en 124 _ (by decide)]
    refine ⟨fun _ => ⟨by omega, by omega⟩, fun _ => ⟨by omega, by omega⟩, fun z => R.om z, fun z => absurd c' z, fun _ => ⟨⟨by omega, by omega⟩, ⟨by omega, by omega⟩, fun _ => ⟨by omega, by omega⟩, ?_, rfl, rfl⟩⟩
    by_cases q : 0 ≤ x3 ∧ x3 ≤ Mm 121 (80 * x1 + x2) - 1
    · rw [rh_if_t q, rh_if_t q]; exact (w2 x3 (by omega) (by omega)).1.1
    · rw [rh_if_f q, rh_if_f q]
theorem op_why (hh : rh_hs wh) (hm : rh_ms wm) {Mh Mm : rhM} (R : RdA Mh Mm) (x1 x2 x3 x4 : Int) : rC2 wh YX1_why 3 [(2, 0), (0, x1), (0, x2), (0, x3), (0, x4)] Mh wm YX32_why 3 [(2, 0), (0, x1), (0, x2), (0, x3), (0, x4)] Mm (fun r M' r2 M2' => r = r2 ∧ M' = Mh ∧ M2' = rh_set Mm 0 0 0) := by
  refine rC2.of (by decide) (LE0 rfl) (by decide) (LE0 rfl) ?_
  have en : ∀ c k, 0 < c → rh_set Mm 0 0 0 c k = Mm c k := fun c k h => rh_set_a (by omega)
  have at' := R.at x1 x2
  refine rh2.l (rX1_why_0 hh _ _ _ _ _ ?_)
  refine ⟨⟨by omega, by omega⟩, fun _ => ⟨by omega, by omega⟩, fun _ => ⟨by omega, by omega⟩, fun z => R.ob z, fun c => ?_, fun c => ?_⟩
  · refine rh1.of (rX32_why_0 hm _ _ _ _ _ ?_)
    rw [en 113 _ (by decide), en 114 _ (by decide)]
    exact ⟨fun _ => ⟨by omega, by omega⟩, fun _ => ⟨by omega, by omega⟩, fun z => R.om z, fun _ => ⟨rfl, rfl, rfl⟩, fun z => absurd (fun y => c (at'.mpr y)) z⟩
  · have c' := at'.mp (Classical.byContradiction c)
    obtain ⟨a1, a2⟩ := R x1 (by omega) (by omega)
    obtain ⟨b1, b2, b3⟩ := a2 c'.1.2
    obtain ⟨w1, w2, w3, w4⟩ := b3 x2 (by omega) (by omega)
    refine ⟨fun d => ?_, fun d => ?_⟩
    · refine rh1.of (rX32_why_0 hm _ _ _ _ _ ?_)
      rw [en 113 _ (by decide), en 114 _ (by decide)]
      exact ⟨fun _ => ⟨by omega, by omega⟩, fun _ => ⟨by omega, by omega⟩, fun z => R.om z, fun z => absurd c' z, fun _ => ⟨fun _ => ⟨rfl, rfl, rfl⟩, fun z => absurd d z⟩⟩
    · rw [w3.1]
      refine ⟨⟨by omega, by omega⟩, ⟨by omega, by omega⟩, ⟨by omega, by omega⟩, fun _ => ⟨by omega, by omega⟩, ?_⟩
      refine rh1.of (rX32_why_0 hm _ _ _ _ _ ?_)
      rw [en 113 _ (by decide), en 114 _ (by decide), en 129 _ (by decide)]
      refine ⟨fun _ => ⟨by omega, by omega⟩, fun _ => ⟨by omega, by omega⟩, fun z => R.om z, fun z => absurd c' z, fun _ => ⟨fun z => absurd z d, fun _ => ⟨⟨by omega, by omega⟩, ⟨by omega, by omega⟩, ⟨by omega, by omega⟩, fun q => ⟨by rw [rh_if_f q], rfl, rfl⟩, fun q => ?_⟩⟩⟩
      have q' : 0 ≤ x3 ∧ x3 ≤ Mm 129 (80 * x1 + x2) - 1 := Classical.byContradiction q
      rw [rh_if_t q']
      obtain ⟨v0, v1, v2, v3, v4, v5, v6⟩ := w4 x3 (by omega) (by omega)
      intro k hk
      rw [hk, en 130 _ (by decide), en 131 _ (by decide), en 126 _ (by decide), en 132 _ (by decide), en 133 _ (by decide), en 134 _ (by decide), en 135 _ (by decide)]
      refine ⟨⟨by omega, by omega⟩, fun e => ⟨⟨by omega, by omega⟩, by rw [e]; exact v0, rfl, rfl⟩, fun e0 => ⟨fun e => ⟨⟨by omega, by omega⟩, by rw [e]; exact v1, rfl, rfl⟩, fun e1 => ⟨fun e => ⟨⟨by omega, by omega⟩, by rw [e]; exact v2, rfl, rfl⟩, fun e2 => ⟨fun e => ⟨⟨by omega, by omega⟩, by rw [e]; exact v3, rfl, rfl⟩, fun e3 => ⟨fun e => ⟨⟨by omega, by omega⟩, by rw [e]; exact v4, rfl, rfl⟩, fun e4 => ⟨fun e => ⟨⟨by omega, by omega⟩, by rw [e]; exact v5, rfl, rfl⟩, fun e5 => ⟨⟨by omega, by omega⟩, by rw [show x4 = 6 by omega]; exact v6, rfl, rfl⟩⟩⟩⟩⟩⟩⟩
end Reads
