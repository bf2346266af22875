/-! ===== LAYER 2: blank, with frames; tables in holes ===== -/
section Blank2
variable {wh wm : rhW}
theorem eS_h168 {w : rhW} {h : Nat} {L : rhL} {S : List rhA} {M : rhM} {d : Int} (hL : L[8]? = some (10, 0, d)) (hd : 0 ≤ d ∧ d < 4) : eS w YX1_holes h 168 L S M 174 L ((0, rh_tb 2 d) :: S) M := fun r M0 K n =>
  rh_gstN 171 (i := 2) (x := 2) (rh_dec1 tdX1_holes rfl) rfl rfl (rh_nin q2049 rfl) rfl rfl (rh_ild 173 (j := 8) (x := d) (rh_dec1 tdX1_holes rfl) hL rfl (rh_lT 174 (j := 2) (len := 4) rfl rfl rfl (rh_dec1 tdX1_holes rfl) rfl hd (by decide) (by decide) rfl (K n)))
theorem eS_h181 {w : rhW} {h : Nat} {L : rhL} {S : List rhA} {M : rhM} {d : Int} (hL : L[8]? = some (10, 0, d)) (hd : 0 ≤ d ∧ d < 4) : eS w YX1_holes h 181 L S M 187 L ((0, rh_tb 3 d) :: S) M := fun r M0 K n =>
  rh_gstN 184 (i := 3) (x := 3) (rh_dec1 tdX1_holes rfl) rfl rfl (rh_nin q2051 rfl) rfl rfl (rh_ild 186 (j := 8) (x := d) (rh_dec1 tdX1_holes rfl) hL rfl (rh_lT 187 (j := 3) (len := 4) rfl rfl rfl (rh_dec1 tdX1_holes rfl) rfl hd (by decide) (by decide) rfl (K n)))
theorem op_blank2 (hh : rh_hs wh) (hm : rh_ms wm) {Mh Mm : rhM} (R : Rpg Mh Mm) (x1 x2 x3 : Int) : rC2 wh YX1_blank 3 [(2, 0), (0, x1), (0, x2), (0, x3)] Mh wm YX32_blank 2 [(2, 0), (0, x1), (0, x2), (0, x3)] Mm (fun r M' r2 M2' => r = r2 ∧ Pres Mh Mm M' M2') := by
  have hmul : ∀ {u v : Int}, (1 ≤ u ∧ u ≤ 128) → (1 ≤ v ∧ v ≤ 96) → 0 ≤ u * v ∧ u * v ≤ 12288 := fun {u v} hu hv => ⟨mul_nn (by omega) (by omega), by
    have h1 : u * v ≤ 128 * v := Int.mul_le_mul_of_nonneg_right hu.2 (by omega)
    omega⟩
  have f0 : frx Gw Mm (rh_set Mm 0 0 0) := frx.rf.st (by unfold Gw; omega)
  refine rC2.of (by decide) (LE0 rfl) (by decide) (LE0 rfl) ?_
  refine rh2.l (rX1_blank_0 hh _ _ _ _ ⟨fun c1 => ?_, fun c1 => ⟨fun h1 h2 => ?_, fun c2 => ?_, fun c2 => ?_⟩⟩)
  · exact rh1.of (rX32_blank_0 hm _ _ _ _ ⟨fun d1 => ⟨rfl, .inl ⟨frx.rf, f0⟩⟩, fun d1 => absurd c1 d1⟩)
  · have := hmul h1 h2
    exact ⟨by omega, by omega⟩
  · refine rh1.of (rX32_blank_0 hm _ _ _ _ ⟨fun d1 => absurd d1 c1, fun d1 => ⟨fun h1 h2 => ?_, fun d2 => ⟨rfl, .inl ⟨frx.rf, f0⟩⟩, fun d2 => absurd c2 d2⟩⟩)
    have := hmul h1 h2
    exact ⟨by omega, by omega⟩
  · have c3 : (1 ≤ x2 ∧ x2 ≤ 128) ∧ (1 ≤ x3 ∧ x3 ≤ 96) ∧ x2 * x3 ≤ 6144 := Classical.not_not.mp c2
    have hp : 0 ≤ x1 ∧ x1 < 8 := by omega
    have hmm := hmul c3.1 c3.2.1
    refine rh2.r (rX32_blank_0 hm _ _ _ _ ⟨fun d1 => absurd d1 c1, fun d1 => ⟨fun h1 h2 => ⟨by omega, by omega⟩, fun d2 => absurd d2 c2, fun d2 => ?_⟩⟩)
    have e1 : rh_set (rh_set Mh 8 1 x2) 8 2 x3 8 1 = x2 := by simp [rh_sets]
    have e2 : rh_set (rh_set Mh 8 1 x2) 8 2 x3 8 2 = x3 := by simp [rh_sets]
    obtain ⟨r, M1, E1, rfl, f1, z1⟩ := c_fill hh (g := 255) (hs_sh hh) (rh_set (rh_set Mh 8 1 x2) 8 2 x3) (by rw [e1, e2]; omega) (by rw [e1, e2]; omega)
    rw [e1, e2] at z1
    have w1 : M1 8 1 = x2 := by rw [f1.at (by decide), e1]
    have w2 : M1 8 2 = x3 := by rw [f1.at (by decide), e2]
    have F1 : frx Hw Mh M1 := ((frx.rf.st (by unfold Hw; omega)).st (by unfold Hw; omega)).tr (f1.x.w (fun a j h => by unfold Hw; omega))
    refine rh2.sl (vX1_blank_37 (hs_sh hh) E1 (LE0 rfl)) ?_
    refine rh2.l (rX1_blank_40 hh _ _ ⟨hp, ?_⟩)
    refine rh2.sl (vX1_blank_50 (hs_pg hh hp.1 hp.2) (c_lay hh (hs_pg hh hp.1 hp.2) (hs_sh hh) (by omega) M1 (by rw [w1, w2]; omega) (by rw [w1, w2]; omega)) (LE0 rfl)) ?_
    have key : ∀ (vq : Nat) (k : Int) (M' : rhM), (x2 * x3 - k).toNat = vq → (0 ≤ k) → (k ≤ x2 * x3) → (frx (fun a _ => a = 6) (rh_set Mm 0 0 0) M') → (∀ j, 0 ≤ j → j < k → M' 6 j = 255) → rh2 wh YX1_blank 3 53 [(0, 2, 0)] [] (m_lay M1 (251 + 39 * x1) 8) wm YX32_blank 2 30 [(0, 2, 0), (1, 0, x1), (2, 0, x2), (3, 0, x3), (4, 0, k)] [] M' (fun r M' r2 M2' => r = r2 ∧ Pres Mh Mm M' M2') := by
      intro vq
      induction vq using Nat.strongRecOn with
      | ind vq ih =>
        intro k M' hvq k0 k1 f hj
        refine rh2.r (rX32_blank_30 hm _ _ _ _ _ ⟨⟨by omega, by omega⟩, fun c => ⟨⟨by omega, by omega⟩, ⟨by omega, by omega⟩, ?_⟩, fun c => ?_⟩)
        · refine ih _ (by omega) (k + 1) _ rfl (by omega) (by omega) (f.st rfl) (fun j a b => ?_)
          by_cases e : j = k
          · rw [e, rh_set_s]
          · rw [rh_set_j e]; exact hj j a (by omega)
        · refine rh2.sr (vX32_blank_58 hm (c_bec hm hp M' (by omega) (by omega)) (LE0 rfl)) ?_
          have v1 : m_lay M1 (251 + 39 * x1) 8 8 1 = x2 := by rw [m_lay_o (by omega) (by omega) (by omega), w1]
          have v2 : m_lay M1 (251 + 39 * x1) 8 8 2 = x3 := by rw [m_lay_o (by omega) (by omega) (by omega), w2]
          refine rh2.l (rX1_blank_53 hh _ ?_)
          rw [v1, v2]
          refine ⟨⟨by omega, by omega⟩, rh1.of (rX32_blank_61 hm _ _ _ ⟨⟨by omega, by omega⟩, rfl, .inr ⟨x1, hp, ?_⟩⟩)⟩
          refine Laid.mk R hp F1 (f0.tr (f.w (fun a j h => by unfold Gw; omega))) ⟨w1, w2, by omega, by omega, by omega, by omega, by omega, by omega, by omega, fun j j0 j1 => ?_⟩ (by omega)
          rw [hj j j0 (by omega), show M1 9 j = rh_i2b 255 from z1 j j0 j1]
          exact ⟨i2b255, by omega, by omega⟩
    exact key _ 0 _ rfl (by omega) (by omega) frx.rf (fun j a b => by omega)
end Blank2
