/-! ===== LAYER 2: relations between the two memories ===== -/
section Rel
/-- a frame: other cells as before -/
def frm (F : Int → Prop) (M M' : rhM) : Prop := ∀ a : Int, ¬ F a → M' a = M a
theorem frm.rf {F : Int → Prop} {M : rhM} : frm F M M := fun _ _ => rfl
theorem frm.tr {F : Int → Prop} {M M' M'' : rhM} (h : frm F M M') (h2 : frm F M' M'') : frm F M M'' := fun a ha => (h2 a ha).trans (h a ha)
theorem frm.st {F : Int → Prop} {M M' : rhM} {r i v : Int} (h : frm F M M') (hr : F r) : frm F M (rh_set M' r i v) := by
  intro a ha
  rw [← h a ha]
  funext j
  exact rh_set_a (fun e => ha (e ▸ hr))
theorem frm.at {F : Int → Prop} {M M' : rhM} (h : frm F M M') {a j : Int} (ha : ¬ F a) : M' a j = M a j := congrFun (h a ha) j
theorem frm.w {F G : Int → Prop} {M M' : rhM} (h : frm F M M') (hg : ∀ a, F a → G a) : frm G M M' := fun a ha => h a (fun hf => ha (hg a hf))
theorem rh_sets (M : rhM) (r i v a j : Int) : rh_set M r i v a j = if a = r then (if j = i then v else M a j) else M a j := rfl
/-- a page: the house's cell x, the model's page p -/
def Rp (Mh Mm : rhM) (x p : Int) : Prop := Mh x 1 = Mm 4 p ∧ Mh x 2 = Mm 5 p ∧ 0 ≤ Mm 4 p ∧ Mm 4 p ≤ 128 ∧ 0 ≤ Mm 5 p ∧ Mm 5 p ≤ 96 ∧ 0 ≤ Mm 4 p * Mm 5 p ∧ Mm 4 p * Mm 5 p ≤ 6144 ∧ (0 < Mm 4 p → 0 < Mm 5 p) ∧
  ∀ k : Int, 0 ≤ k → k < Mm 4 p * Mm 5 p → rh_and (Mh (x + 1) k) 255 = Mm 3 (6144 * p + k) ∧ 0 ≤ Mm 3 (6144 * p + k) ∧ Mm 3 (6144 * p + k) ≤ 255
def Rpg (Mh Mm : rhM) : Prop := ∀ p : Int, 0 ≤ p → p < 8 → Rp Mh Mm (251 + 39 * p) p ∧ (Mh (251 + 39 * p) 3 ≠ 0 ↔ 0 < Mm 4 p)
theorem mul_lt {a b x y : Int} (h0 : 0 ≤ x) (h1 : x < a) (h2 : 0 ≤ y) (h3 : y < b) : a * y + x < a * b := by
  have h4 : a * (y + 1) ≤ a * b := Int.mul_le_mul_of_nonneg_left (by omega) (by omega)
  rw [Int.mul_add] at h4
  omega
theorem mul_nn {a b : Int} (h0 : 0 ≤ a) (h1 : 0 ≤ b) : 0 ≤ a * b := Int.mul_nonneg h0 h1
/-- an exact contract, out of one with equations -/
theorem eC.of1 {w : rhW} {Y : rhY} {h : Nat} {av : List rhA} {M M0 : rhM} {r0 : Int} (H : rC1 w Y h av M (fun r M' => r = r0 ∧ M' = M0)) : eC w Y h av M r0 M0 := by
  obtain ⟨r, M', a, rfl, rfl⟩ := H
  exact a
theorem eC.to1 {w : rhW} {Y : rhY} {h : Nat} {av : List rhA} {M M0 : rhM} {r0 : Int} {P : Int → rhM → Prop} (H : eC w Y h av M r0 M0) (hP : P r0 M0) : rC1 w Y h av M P := ⟨_, _, H, hP⟩
theorem rh_cpy0 {M : rhM} {r sp r1 a : Int} : rh_cpy M r sp r1 a 0 = M := by
  funext z j
  unfold rh_cpy
  split
  · rw [if_neg (by omega)]
  · rfl
theorem rh_cpy_s {M : rhM} {r sp r1 a k : Int} (h0 : 0 ≤ k) : rh_set (rh_cpy M r sp r1 a k) r1 (a + k) (M r (sp + k)) = rh_cpy M r sp r1 a (k + 1) := by
  funext z j
  unfold rh_set rh_cpy
  by_cases hz : z = r1
  · simp only [hz, if_true]
    by_cases hj : j = a + k
    · simp only [hj, if_true]
      rw [if_pos (show a ≤ a + k ∧ a + k < a + (k + 1) by omega), show sp + (a + k - a) = sp + k by omega]
    · simp only [hj, if_false]
      by_cases h2 : a ≤ j ∧ j < a + k
      · rw [if_pos h2, if_pos (show a ≤ j ∧ j < a + (k + 1) by omega)]
      · rw [if_neg h2, if_neg (show ¬ (a ≤ j ∧ j < a + (k + 1)) by omega)]
  · simp only [hz, if_false]
/-- the parts of a block -/
theorem rh_bl.sheet {w : rhW} {x p : Int} (h : rh_bl w 5 x p) : rh_ar w (x + 1) .byte 6144 := by
  obtain ⟨len, h1, h2, h3⟩ := (h.2 1 _ rfl).1
  have : len = 6144 := by
    have h4 : (len : Int) = ((0 : Nat) : Int) * p + ((6144 : Nat) : Int) := h2
    simp at h4
    omega
  subst this
  exact h1
theorem rh_bl.page5 {w : rhW} {x p : Int} (h : rh_bl w 0 x p) : rh_bl w 5 x 0 := by
  have := rh_emb_ok (d := 0) (t' := 5) (m' := 0) h (by decide +kernel)
  simpa using this
end Rel
section T1
variable {wh wm : rhW}
theorem op_pixel (hh : rh_hs wh) (hm : rh_ms wm) {Mh Mm : rhM} (R : Rpg Mh Mm) (x1 x2 x3 : Int) : rC2 wh YX1_pixel 3 [(2, 0), (0, x1), (0, x2), (0, x3)] Mh wm YX32_pixel 3 [(2, 0), (0, x1), (0, x2), (0, x3)] Mm (fun r M' r2 M2' => r = r2 ∧ M' = Mh ∧ M2' = rh_set Mm 0 0 0) := by
  refine rC2.of (by decide) (Nat.le_of_ble_eq_true rfl) (by decide) (Nat.le_of_ble_eq_true rfl) ?_
  have e4 : rh_set Mm 0 0 0 4 x1 = Mm 4 x1 := rh_set_a (by decide)
  have e5 : rh_set Mm 0 0 0 5 x1 = Mm 5 x1 := rh_set_a (by decide)
  have e3 : ∀ z, rh_set Mm 0 0 0 3 z = Mm 3 z := fun z => rh_set_a (by decide)
  refine rh2.l (rX1_pixel_0 hh _ _ _ _ ⟨by omega, fun c1 => ?_, fun c1 => ?_⟩)
  · refine rh1.of (rX32_pixel_0 hm _ _ _ _ ⟨by omega, fun d1 => ⟨rfl, rfl, rfl⟩, fun d1 => ?_⟩)
    rw [e4] at d1
    have hp : 0 ≤ x1 ∧ x1 < 8 := by omega
    have := (R x1 hp.1 hp.2).2
    omega
  · have hp : 0 ≤ x1 ∧ x1 < 8 := by omega
    obtain ⟨⟨a1, a2, a3, a4, a5, a6, a7, a8, a9, a10⟩, b⟩ := R x1 hp.1 hp.2
    have hbd : (0 ≤ x2 ∧ x2 < Mh (251 + 39 * x1) 1 ∧ 0 ≤ x3 ∧ x3 < Mh (251 + 39 * x1) 2) → 0 ≤ Mh (251 + 39 * x1) 1 * x3 + x2 ∧ Mh (251 + 39 * x1) 1 * x3 + x2 < Mm 4 x1 * Mm 5 x1 := fun z => by
      have h1 := mul_lt z.1 z.2.1 z.2.2.1 z.2.2.2
      have h2 := mul_nn (a := Mh (251 + 39 * x1) 1) (b := x3) (by omega) z.2.2.1
      rw [a1, a2] at h1
      rw [a1] at h2 ⊢
      omega
    refine ⟨hp, fun _ => hp, fun z => ⟨(hbd z).1, by have := (hbd z).2; omega⟩, ?_⟩
    refine rh1.of (rX32_pixel_0 hm _ _ _ _ ⟨by omega, fun d1 => ?_, fun d1 => ?_⟩)
    · rw [e4] at d1
      omega
    · rw [e4, e5, e3]
      refine ⟨fun _ _ => hp, fun _ _ _ => hp, fun _ => hp, fun z => ?_, ?_, rfl, rfl⟩
      · have h3 := hbd (by omega)
        rw [a1, Int.mul_comm] at h3
        constructor <;> omega
      · by_cases z : 0 ≤ x2 ∧ x2 < Mh (251 + 39 * x1) 1 ∧ 0 ≤ x3 ∧ x3 < Mh (251 + 39 * x1) 2
        · rw [rh_if_t z, rh_if_f (by omega)]
          have h3 := hbd z
          have h4 := (a10 _ h3.1 h3.2).1
          rw [h4, a1, Int.mul_comm x3]
          congr 1
          omega
        · rw [rh_if_f z, rh_if_t (by omega)]
end T1
