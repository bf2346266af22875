/-! ===== LAYER 2: a page anew ===== -/
section Blank
variable {wh wm : rhW}
/-- the spare sheet and the working page -/
def Rsp (Mh Mm : rhM) (a b : Int) : Prop := Mh 8 1 = a ∧ Mh 8 2 = b ∧ 0 ≤ a ∧ a ≤ 128 ∧ 0 ≤ b ∧ b ≤ 96 ∧ 0 ≤ a * b ∧ a * b ≤ 6144 ∧ (0 < a → 0 < b) ∧ ∀ k : Int, 0 ≤ k → k < a * b → rh_and (Mh 9 k) 255 = Mm 6 k ∧ 0 ≤ Mm 6 k ∧ Mm 6 k ≤ 255
theorem m_lay_o {M : rhM} {x y a j : Int} (h1 : a ≠ x) (h2 : a ≠ x + 1) (h3 : a ≠ x + 9) : m_lay M x y a j = M a j := by
  simp [m_lay, rh_sets, rh_cpy, h1, h2, h3]
theorem m_lay_1 {M : rhM} {x y : Int} : m_lay M x y x 1 = M y 1 := by
  have e1 : ¬ (x = x + 1) := by omega
  simp [m_lay, rh_sets, rh_cpy, e1]
theorem m_lay_2 {M : rhM} {x y : Int} : m_lay M x y x 2 = M y 2 := by
  have e1 : ¬ (x = x + 1) := by omega
  simp [m_lay, rh_sets, rh_cpy, e1]
theorem m_lay_3 {M : rhM} {x y : Int} : m_lay M x y x 3 = 1 := by simp [m_lay, rh_sets, rh_cpy]
theorem m_lay_g {M : rhM} {x y k : Int} (hy : y + 1 ≠ x) (h0 : 0 ≤ k) (h1 : k < M y 1 * M y 2) : m_lay M x y (x + 1) k = M (y + 1) k := by
  have e1 : ¬ (x + 1 = x + 9) := by omega
  have e2 : ¬ (x + 1 = x) := by omega
  simp only [m_lay, rh_sets, rh_cpy, e1, e2, if_false, if_true, hy]
  rw [if_pos ⟨h0, by omega⟩]
  simp
theorem m_bec_o {M : rhM} {p a b c j : Int} (h1 : c ≠ 3) (h2 : c ≠ 4) (h3 : c ≠ 5) (h4 : c ≠ 23) (h5 : c ≠ 157) : m_bec M p a b c j = M c j := by
  simp [m_bec, rh_sets, rh_cpy, h1, h2, h3, h4, h5]
theorem m_bec_4 {M : rhM} {p a b j : Int} : m_bec M p a b 4 j = if j = p then a else M 4 j := by simp [m_bec, rh_sets, rh_cpy]
theorem m_bec_5 {M : rhM} {p a b j : Int} : m_bec M p a b 5 j = if j = p then b else M 5 j := by simp [m_bec, rh_sets, rh_cpy]
theorem m_bec_3 {M : rhM} {p a b j : Int} : m_bec M p a b 3 j = if 6144 * p ≤ j ∧ j < 6144 * p + a * b then M 6 (j - 6144 * p) else M 3 j := by simp [m_bec, rh_sets, rh_cpy]
theorem Rpg_lay {Mh Mm : rhM} {p a b : Int} (R : Rpg Mh Mm) (hp : 0 ≤ p ∧ p < 8) (S : Rsp Mh Mm a b) (ha : 0 < a) : Rpg (m_lay Mh (251 + 39 * p) 8) (m_bec Mm p a b) := by
  obtain ⟨s1, s2, s3, s4, s5, s6, s7, s8, s9, s10⟩ := S
  intro q q0 q1
  obtain ⟨⟨a1, a2, a3, a4, a5, a6, a7, a8, a9, a10⟩, b0⟩ := R q q0 q1
  unfold Rp
  by_cases e : q = p
  · subst e
    rw [m_lay_1, m_lay_2, m_lay_3, m_bec_4, m_bec_5, if_pos rfl, if_pos rfl]
    refine ⟨⟨s1, s2, s3, s4, s5, s6, s7, s8, s9, fun k k0 k1 => ?_⟩, by omega⟩
    rw [m_lay_g (by omega) k0 (by rw [s1, s2]; exact k1), m_bec_3, if_pos (by omega), show 6144 * q + k - 6144 * q = k by omega]
    exact s10 k k0 k1
  · rw [m_lay_o (by omega) (by omega) (by omega), m_lay_o (by omega) (by omega) (by omega), m_lay_o (by omega) (by omega) (by omega), m_bec_4, m_bec_5, if_neg e, if_neg e]
    refine ⟨⟨a1, a2, a3, a4, a5, a6, a7, a8, a9, fun k k0 k1 => ?_⟩, b0⟩
    rw [m_lay_o (by omega) (by omega) (by omega), m_bec_3, if_neg (by omega)]
    exact a10 k k0 k1
theorem Rpg.set0 {Mh Mm : rhM} {v : Int} (R : Rpg Mh Mm) : Rpg Mh (rh_set Mm 0 0 v) := by
  intro q q0 q1
  have h := R q q0 q1
  unfold Rp at h ⊢
  have e4 : ∀ j, rh_set Mm 0 0 v 4 j = Mm 4 j := fun j => rh_set_a (by decide)
  have e5 : ∀ j, rh_set Mm 0 0 v 5 j = Mm 5 j := fun j => rh_set_a (by decide)
  have e3 : ∀ j, rh_set Mm 0 0 v 3 j = Mm 3 j := fun j => rh_set_a (by decide)
  simp only [e3, e4, e5]
  exact h
theorem Rpg.frm {Mh Mm Mh' Mm' : rhM} {F G : Int → Prop} (R : Rpg Mh Mm) (f : _root_.Jvm.Pilot.CReadingHouseLaw_law_r9657_0eb00d.frm F Mh Mh') (g : _root_.Jvm.Pilot.CReadingHouseLaw_law_r9657_0eb00d.frm G Mm Mm') (hF : ∀ p : Int, 0 ≤ p → p < 8 → ¬ F (251 + 39 * p) ∧ ¬ F (251 + 39 * p + 1)) (hG : ¬ G 3 ∧ ¬ G 4 ∧ ¬ G 5) : Rpg Mh' Mm' := by
  intro q q0 q1
  have h := R q q0 q1
  unfold Rp at h ⊢
  rw [f _ (hF q q0 q1).1, f _ (hF q q0 q1).2, g 3 hG.1, g 4 hG.2.1, g 5 hG.2.2]
  exact h
theorem i2b255 : rh_and (rh_i2b 255) 255 = 255 := by decide
/-- blank -/
theorem op_blank (hh : rh_hs wh) (hm : rh_ms wm) {Mh Mm : rhM} (R : Rpg Mh Mm) (x1 x2 x3 : Int) : rC2 wh YX1_blank 3 [(2, 0), (0, x1), (0, x2), (0, x3)] Mh wm YX32_blank 2 [(2, 0), (0, x1), (0, x2), (0, x3)] Mm (fun r M' r2 M2' => r = r2 ∧ Rpg M' M2') := by
  have hmul : ∀ {u v : Int}, (1 ≤ u ∧ u ≤ 128) → (1 ≤ v ∧ v ≤ 96) → 0 ≤ u * v ∧ u * v ≤ 12288 := fun {u v} hu hv => ⟨mul_nn (by omega) (by omega), by
    have h1 : u * v ≤ 128 * v := Int.mul_le_mul_of_nonneg_right hu.2 (by omega)
    omega⟩
  refine rC2.of (by decide) (LE0 rfl) (by decide) (LE0 rfl) ?_
  refine rh2.l (rX1_blank_0 hh _ _ _ _ ⟨fun c1 => ?_, fun c1 => ⟨fun h1 h2 => ?_, fun c2 => ?_, fun c2 => ?_⟩⟩)
  · exact rh1.of (rX32_blank_0 hm _ _ _ _ ⟨fun d1 => ⟨rfl, R.set0⟩, fun d1 => absurd c1 d1⟩)
  · have := hmul h1 h2
    exact ⟨by omega, by omega⟩
  · refine rh1.of (rX32_blank_0 hm _ _ _ _ ⟨fun d1 => absurd d1 c1, fun d1 => ⟨fun h1 h2 => ?_, fun d2 => ⟨rfl, R.set0⟩, fun d2 => absurd c2 d2⟩⟩)
    have := hmul h1 h2
    exact ⟨by omega, by omega⟩
  · have c3 : (1 ≤ x2 ∧ x2 ≤ 128) ∧ (1 ≤ x3 ∧ x3 ≤ 96) ∧ x2 * x3 ≤ 6144 := Classical.not_not.mp c2
    have hp : 0 ≤ x1 ∧ x1 < 8 := by omega
    have hmm := hmul c3.1 c3.2.1
    refine rh2.r (rX32_blank_0 hm _ _ _ _ ⟨fun d1 => absurd d1 c1, fun d1 => ⟨fun h1 h2 => ⟨by omega, by omega⟩, fun d2 => absurd d2 c2, fun d2 => ?_⟩⟩)
    -- the house: fill, lay
    have e1 : rh_set (rh_set Mh 8 1 x2) 8 2 x3 8 1 = x2 := by simp [rh_sets]
    have e2 : rh_set (rh_set Mh 8 1 x2) 8 2 x3 8 2 = x3 := by simp [rh_sets]
    obtain ⟨r, M1, E1, rfl, f1, z1⟩ := c_fill hh (g := 255) (hs_sh hh) (rh_set (rh_set Mh 8 1 x2) 8 2 x3) (by rw [e1, e2]; omega) (by rw [e1, e2]; omega)
    rw [e1, e2] at z1
    have w1 : M1 8 1 = x2 := by rw [f1.at (by decide), e1]
    have w2 : M1 8 2 = x3 := by rw [f1.at (by decide), e2]
    refine rh2.sl (vX1_blank_37 (hs_sh hh) E1 (LE0 rfl)) ?_
    refine rh2.l (rX1_blank_40 hh _ _ ⟨hp, ?_⟩)
    refine rh2.sl (vX1_blank_50 (hs_pg hh hp.1 hp.2) (c_lay hh (hs_pg hh hp.1 hp.2) (hs_sh hh) (by omega) M1 (by rw [w1, w2]; omega) (by rw [w1, w2]; omega)) (LE0 rfl)) ?_
    -- the model: its loop
    have key : ∀ (v : Nat) (k : Int) (M' : rhM), (x2 * x3 - k).toNat = v → 0 ≤ k → k ≤ x2 * x3 → frm (· = 6) (rh_set Mm 0 0 0) M' → (∀ j, 0 ≤ j → j < k → M' 6 j = 255) →
        rh2 wh YX1_blank 3 53 [(0, 2, 0)] [] (m_lay M1 (251 + 39 * x1) 8) wm YX32_blank 2 30 [(0, 2, 0), (1, 0, x1), (2, 0, x2), (3, 0, x3), (4, 0, k)] [] M' (fun r M' r2 M2' => r = r2 ∧ Rpg M' M2') := by
      intro v
      induction v using Nat.strongRecOn with
      | ind v ih =>
        intro k M' hv k0 k1 f hj
        refine rh2.r (rX32_blank_30 hm _ _ _ _ _ ⟨⟨by omega, by omega⟩, fun c => ⟨⟨by omega, by omega⟩, ⟨by omega, by omega⟩, ?_⟩, fun c => ?_⟩)
        · refine ih _ (by omega) (k + 1) _ rfl (by omega) (by omega) (f.st rfl) (fun j a b => ?_)
          by_cases e : j = k
          · rw [e, rh_set_s]
          · rw [rh_set_j e]; exact hj j a (by omega)
        · refine rh2.sr (vX32_blank_58 hm (c_bec hm hp M' (by omega) (by omega)) (LE0 rfl)) ?_
          have v1 : m_lay M1 (251 + 39 * x1) 8 8 1 = x2 := by rw [m_lay_o (by omega) (by omega) (by omega), w1]
          have v2 : m_lay M1 (251 + 39 * x1) 8 8 2 = x3 := by rw [m_lay_o (by omega) (by omega) (by omega), w2]
          refine rh2.l (rX1_blank_53 hh _ ?_)
          rw [v1, v2]
          refine ⟨⟨by omega, by omega⟩, rh1.of (rX32_blank_61 hm _ _ _ ⟨⟨by omega, by omega⟩, rfl, ?_⟩)⟩
          refine Rpg_lay ?_ hp ?_ (by omega)
          · have R2 : Rpg (rh_set (rh_set Mh 8 1 x2) 8 2 x3) (rh_set Mm 0 0 0) := by
              have f8 : frm (· = 8) Mh (rh_set (rh_set Mh 8 1 x2) 8 2 x3) := frm.st (F := (· = 8)) (frm.st (F := (· = 8)) frm.rf rfl) rfl
              exact R.set0.frm f8 (frm.rf (F := fun _ => False)) (fun p p0 p1 => ⟨by omega, by omega⟩) ⟨id, id, id⟩
            exact R2.frm f1 f (fun p p0 p1 => ⟨by omega, by omega⟩) ⟨by decide, by decide, by decide⟩
          · refine ⟨w1, w2, by omega, by omega, by omega, by omega, by omega, by omega, by omega, fun j j0 j1 => ?_⟩
            rw [hj j j0 (by omega), show M1 9 j = rh_i2b 255 from z1 j j0 j1]
            exact ⟨i2b255, by omega, by omega⟩
    exact key _ 0 _ rfl (by omega) (by omega) frm.rf (fun j a b => by omega)
end Blank
