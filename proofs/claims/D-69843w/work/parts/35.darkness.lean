/-! ===== LAYER 2: darkness, paint ===== -/
section Dark
variable {wh wm : rhW}
theorem op_darkness (hh : rh_hs wh) (hm : rh_ms wm) {Mh Mm : rhM} (R : Rpg Mh Mm) (x1 x2 x3 x4 x5 : Int) (hr : rI x2 ∧ rI x3 ∧ rI x4 ∧ rI x5) : rC2 wh YX1_darkness 3 [(2, 0), (0, x1), (0, x2), (0, x3), (0, x4), (0, x5)] Mh wm YX32_darkness 3 [(2, 0), (0, x1), (0, x2), (0, x3), (0, x4), (0, x5)] Mm (fun r M' r2 M2' => r = r2 ∧ M' = Mh ∧ M2' = rh_set Mm 0 0 0) := by
  refine rC2.of (by decide) (LE0 rfl) (by decide) (LE0 rfl) ?_
  have e5 : rh_set Mm 0 0 0 5 x1 = Mm 5 x1 := rh_set_a (by decide)
  refine rh2.l (rX1_darkness_0 hh _ _ _ _ _ _ ⟨by omega, fun c => ?_, fun c => ⟨by omega, ?_⟩⟩)
  · refine rh1.of (rX32_darkness_0 hm _ _ _ _ _ _ ⟨by omega, fun d => ⟨rfl, rfl, rfl⟩, fun d => ?_⟩)
    rw [set0_4] at d
    have := (R x1 (by omega) (by omega)).2
    omega
  · have hp : 0 ≤ x1 ∧ x1 < 8 := by omega
    obtain ⟨⟨a1, a2, a3, a4, a5, a6, a7, a8, a9, a10⟩, b⟩ := R x1 hp.1 hp.2
    refine rh2.r (rX32_darkness_0 hm _ _ _ _ _ _ ⟨by omega, fun d => absurd d (by rw [set0_4]; omega), fun d => ?_⟩)
    refine rh2.sl (vX1_darkness_23 (hs_pg hh hp.1 hp.2) (c_boxH hh (hs_pgs hh hp.1 hp.2) Mh (by omega) (by omega)) (LE0 rfl)) ?_
    refine rh2.sr (vX32_darkness_24 hm (c_boxM hm hp _ hr) (LE0 rfl)) ?_
    rw [set0_4, e5, a1, a2]
    by_cases z : inBox (Mm 4 x1) (Mm 5 x1) x2 x3 x4 x5
    · rw [rh_if_t z]
      refine rh2.l (rX1_darkness_26 hh _ _ _ _ _ _ _ ⟨fun c => absurd c (by decide), fun c => ?_⟩)
      refine rh2.r (rX32_darkness_27 hm _ _ _ _ _ _ _ ⟨fun c => absurd c (by decide), fun c => ?_⟩)
      unfold inBox at z
      have key : ∀ (v : Nat) (y s : Int), (x3 + x5 - y).toNat = v → x3 ≤ y → y ≤ x3 + x5 → 0 ≤ s → s ≤ 32640 * (y - x3) →
          rh2 wh YX1_darkness 3 38 [(0, 2, 0), (1, 0, x1), (2, 0, x2), (3, 0, x3), (4, 0, x4), (5, 0, x5), (6, 0, s), (7, 0, y)] [] Mh wm YX32_darkness 3 39 [(0, 2, 0), (1, 0, x1), (2, 0, x2), (3, 0, x3), (4, 0, x4), (5, 0, x5), (6, 0, s), (7, 0, y)] [] (rh_set Mm 0 0 0) (fun r M' r2 M2' => r = r2 ∧ M' = Mh ∧ M2' = rh_set Mm 0 0 0) := by
        intro v
        induction v using Nat.strongRecOn with
        | ind v ih =>
          intro y s hv y0 y1 s0 s1
          refine rh2.l (rX1_darkness_38 hh _ _ _ _ _ _ _ _ ⟨⟨by omega, by omega⟩, fun c => ?_, fun c => ?_⟩)
          · refine rh2.r (rX32_darkness_39 hm _ _ _ _ _ _ _ _ ⟨⟨by omega, by omega⟩, fun d => ?_, fun d => absurd c d⟩)
            have key2 : ∀ (u : Nat) (x s : Int), (x2 + x4 - x).toNat = u → x2 ≤ x → x ≤ x2 + x4 → 0 ≤ s → s ≤ 32640 * (y - x3) + 255 * (x - x2) →
                rh2 wh YX1_darkness 3 50 [(0, 2, 0), (1, 0, x1), (2, 0, x2), (3, 0, x3), (4, 0, x4), (5, 0, x5), (6, 0, s), (7, 0, y), (8, 0, x)] [] Mh wm YX32_darkness 3 51 [(0, 2, 0), (1, 0, x1), (2, 0, x2), (3, 0, x3), (4, 0, x4), (5, 0, x5), (6, 0, s), (7, 0, y), (8, 0, x)] [] (rh_set Mm 0 0 0) (fun r M' r2 M2' => r = r2 ∧ M' = Mh ∧ M2' = rh_set Mm 0 0 0) := by
              intro u
              induction u using Nat.strongRecOn with
              | ind u ih2 =>
                intro x s hu u0 u1 s0 s1
                refine rh2.l (rX1_darkness_50 hh _ _ _ _ _ _ _ _ _ ?_)
                rw [a1]
                refine ⟨⟨by omega, by omega⟩, fun c => ?_, fun c => ⟨⟨by omega, by omega⟩, ?_⟩⟩
                · have h1 := mul_lt (a := Mm 4 x1) (b := Mm 5 x1) (x := x) (y := y) (by omega) (by omega) (by omega) (by omega)
                  have h2 := mul_nn (a := Mm 4 x1) (b := y) (by omega) (by omega)
                  have hg := a10 (Mm 4 x1 * y + x) (by omega) h1
                  refine ⟨hp, ⟨by omega, by omega⟩, fun g eg => ?_⟩
                  rw [hg.1] at eg
                  refine ⟨⟨by omega, by omega⟩, ⟨by omega, by omega⟩, ?_⟩
                  refine rh2.r (rX32_darkness_51 hm _ _ _ _ _ _ _ _ _ ?_)
                  rw [set0_4, show rh_set Mm 0 0 0 3 (6144 * x1 + y * Mm 4 x1 + x) = Mm 3 (6144 * x1 + (Mm 4 x1 * y + x)) by rw [rh_set_a (by decide), Int.mul_comm y]; congr 1; omega]
                  have hc := Int.mul_comm y (Mm 4 x1)
                  refine ⟨⟨by omega, by omega⟩, fun d => ⟨hp, ⟨by omega, by omega⟩, fun g2 eg2 => ?_⟩, fun d => absurd c d⟩
                  rw [← eg] at eg2
                  subst eg2
                  exact ⟨⟨by omega, by omega⟩, ⟨by omega, by omega⟩, ih2 _ (by omega) (x + 1) g2 rfl (by omega) (by omega) (by omega) (by omega)⟩
                · refine rh2.r (rX32_darkness_51 hm _ _ _ _ _ _ _ _ _ ⟨⟨by omega, by omega⟩, fun d => absurd d c, fun d => ⟨⟨by omega, by omega⟩, ?_⟩⟩)
                  exact ih _ (by omega) (y + 1) s rfl (by omega) (by omega) (by omega) (by omega)
            exact key2 _ x2 s rfl (by omega) (by omega) s0 (by omega)
          · exact rh1.of (rX32_darkness_39 hm _ _ _ _ _ _ _ _ ⟨⟨by omega, by omega⟩, fun d => absurd d c, fun d => ⟨rfl, rfl, rfl⟩⟩)
      exact key _ x3 0 rfl (by omega) (by omega) (by omega) (by omega)
    · rw [rh_if_f z]
      refine rh2.l (rX1_darkness_26 hh _ _ _ _ _ _ _ ⟨fun c => ?_, fun c => absurd rfl c⟩)
      exact rh1.of (rX32_darkness_27 hm _ _ _ _ _ _ _ ⟨fun c => ⟨rfl, rfl, rfl⟩, fun c => absurd rfl c⟩)
theorem b255 {v : Int} (h0 : 0 ≤ v) (h1 : v ≤ 255) : rh_and (rh_i2b v) 255 = v := by
  have h : (List.range 256).all (fun v => decide (rh_and (rh_i2b ((v : Nat) : Int)) 255 = (v : Int))) = true := by decide +kernel
  have h2 := of_decide_eq_true (List.all_eq_true.mp h v.toNat (List.mem_range.mpr (by omega)))
  rwa [Int.toNat_of_nonneg h0] at h2
/-- what paint leaves: nothing new, or a page anew -/
def Ppaint (Mh Mm : rhM) (p : Int) (r : Int) (M' : rhM) (r2 : Int) (M2' : rhM) : Prop := r = r2 ∧ ((M' = Mh ∧ M2' = rh_set Mm 0 0 0) ∨ (0 ≤ p ∧ p < 8 ∧ ∃ Mh1 Mm1 : rhM, M' = rh_set (rh_set (rh_set Mh1 (251 + 39 * p) 4 0) (251 + 39 * p + 9) 0 0) (251 + 39 * p) 16 0 ∧ M2' = rh_set (rh_set Mm1 23 p 0) 157 p 0 ∧
  frm (· = 251 + 39 * p + 1) Mh Mh1 ∧ frm (· = 3) (rh_set Mm 0 0 0) Mm1 ∧ Rp Mh1 Mm1 (251 + 39 * p) p ∧ ∀ z : Int, ¬ (6144 * p ≤ z ∧ z < 6144 * p + 6144) → Mm1 3 z = Mm 3 z))
theorem op_paint (hh : rh_hs wh) (hm : rh_ms wm) {Mh Mm : rhM} (R : Rpg Mh Mm) (x1 x2 x3 x4 x5 x6 : Int) (hr : rI x2 ∧ rI x3 ∧ rI x4 ∧ rI x5) : rC2 wh YX1_paint 3 [(2, 0), (0, x1), (0, x2), (0, x3), (0, x4), (0, x5), (0, x6)] Mh wm YX32_paint 3 [(2, 0), (0, x1), (0, x2), (0, x3), (0, x4), (0, x5), (0, x6)] Mm (Ppaint Mh Mm x1) := by
  refine rC2.of (by decide) (LE0 rfl) (by decide) (LE0 rfl) ?_
  have e5 : rh_set Mm 0 0 0 5 x1 = Mm 5 x1 := rh_set_a (by decide)
  refine rh2.l (rX1_paint_0 hh _ _ _ _ _ _ _ ⟨by omega, fun c => ?_, fun c => ⟨by omega, ?_⟩⟩)
  · refine rh1.of (rX32_paint_0 hm _ _ _ _ _ _ _ ⟨by omega, fun d => ⟨rfl, .inl ⟨rfl, rfl⟩⟩, fun d => ?_⟩)
    rw [set0_4] at d
    have := (R x1 (by omega) (by omega)).2
    omega
  · have hp : 0 ≤ x1 ∧ x1 < 8 := by omega
    obtain ⟨R0, b⟩ := R x1 hp.1 hp.2
    have R00 := R0
    obtain ⟨a1, a2, a3, a4, a5, a6, a7, a8, a9, a10⟩ := R0
    refine rh2.r (rX32_paint_0 hm _ _ _ _ _ _ _ ⟨by omega, fun d => absurd d (by rw [set0_4]; omega), fun d => ?_⟩)
    refine rh2.sl (vX1_paint_27 (hs_pg hh hp.1 hp.2) (c_boxH hh (hs_pgs hh hp.1 hp.2) Mh (by omega) (by omega)) (LE0 rfl)) ?_
    refine rh2.sr (vX32_paint_24 hm (c_boxM hm hp _ hr) (LE0 rfl)) ?_
    rw [set0_4, e5, a1, a2]
    have hB := hs_pg hh hp.1 hp.2
    have stop : ∀ g : Int, (g = 0 ∨ ¬ (0 ≤ x6 ∧ x6 ≤ 255)) → rh2 wh YX1_paint 3 30 [(2, 0, x2), (3, 0, x3), (4, 0, x4), (5, 0, x5), (6, 0, x6), (7, 2, 251 + 39 * x1)] [(0, g)] Mh wm YX32_paint 3 27 [(0, 2, 0), (1, 0, x1), (2, 0, x2), (3, 0, x3), (4, 0, x4), (5, 0, x5), (6, 0, x6)] [(0, g)] (rh_set Mm 0 0 0) (Ppaint Mh Mm x1) := fun g hg => by
      refine rh2.l (rX1_paint_30 hh _ _ _ _ _ _ _ _ hB ⟨fun c => ?_, fun c => absurd hg c⟩)
      exact rh1.of (rX32_paint_27 hm _ _ _ _ _ _ _ _ ⟨fun c => ⟨rfl, .inl ⟨rfl, rfl⟩⟩, fun c => absurd hg c⟩)
    by_cases z : inBox (Mm 4 x1) (Mm 5 x1) x2 x3 x4 x5
    · rw [rh_if_t z]
      by_cases z6 : 0 ≤ x6 ∧ x6 ≤ 255
      · refine rh2.l (rX1_paint_30 hh _ _ _ _ _ _ _ _ hB ⟨fun c => absurd c (by omega), fun c => ?_⟩)
        refine rh2.r (rX32_paint_27 hm _ _ _ _ _ _ _ _ ⟨fun c => absurd c (by omega), fun c => ?_⟩)
        unfold inBox at z
        have key : ∀ (v : Nat) (y s : Int) (Mh' Mm' : rhM), (x3 + x5 - y).toNat = v → x3 ≤ y → y ≤ x3 + x5 → 0 ≤ s → s ≤ 128 * (y - x3) → frm (· = 251 + 39 * x1 + 1) Mh Mh' → frm (· = 3) (rh_set Mm 0 0 0) Mm' → Rp Mh' Mm' (251 + 39 * x1) x1 → (∀ z : Int, ¬ (6144 * x1 ≤ z ∧ z < 6144 * x1 + 6144) → Mm' 3 z = Mm 3 z) →
            rh2 wh YX1_paint 3 55 [(2, 0, x2), (3, 0, x3), (4, 0, x4), (5, 0, x5), (6, 0, x6), (7, 2, 251 + 39 * x1), (8, 0, s), (9, 0, y)] [] Mh' wm YX32_paint 3 52 [(0, 2, 0), (1, 0, x1), (2, 0, x2), (3, 0, x3), (4, 0, x4), (5, 0, x5), (6, 0, x6), (7, 0, s), (8, 0, y)] [] Mm' (Ppaint Mh Mm x1) := by
          intro v
          induction v using Nat.strongRecOn with
          | ind v ih =>
            intro y s Mh' Mm' hv y0 y1 s0 s1 f1 f2 Ri hz
            refine rh2.l (rX1_paint_55 hh _ _ _ _ _ _ _ _ _ hB ⟨⟨by omega, by omega⟩, fun c => ?_, fun c => ⟨by omega, by omega, ?_⟩⟩)
            · refine rh2.r (rX32_paint_52 hm _ _ _ _ _ _ _ _ _ ⟨⟨by omega, by omega⟩, fun d => ?_, fun d => absurd c d⟩)
              have key2 : ∀ (u : Nat) (x s : Int) (Mh' Mm' : rhM), (x2 + x4 - x).toNat = u → x2 ≤ x → x ≤ x2 + x4 → 0 ≤ s → s ≤ 128 * (y - x3) + (x - x2) → frm (· = 251 + 39 * x1 + 1) Mh Mh' → frm (· = 3) (rh_set Mm 0 0 0) Mm' → Rp Mh' Mm' (251 + 39 * x1) x1 → (∀ z : Int, ¬ (6144 * x1 ≤ z ∧ z < 6144 * x1 + 6144) → Mm' 3 z = Mm 3 z) →
                  rh2 wh YX1_paint 3 67 [(2, 0, x2), (3, 0, x3), (4, 0, x4), (5, 0, x5), (6, 0, x6), (7, 2, 251 + 39 * x1), (8, 0, s), (9, 0, y), (10, 0, x)] [] Mh' wm YX32_paint 3 64 [(0, 2, 0), (1, 0, x1), (2, 0, x2), (3, 0, x3), (4, 0, x4), (5, 0, x5), (6, 0, x6), (7, 0, s), (8, 0, y), (9, 0, x)] [] Mm' (Ppaint Mh Mm x1) := by
                intro u
                induction u using Nat.strongRecOn with
                | ind u ih2 =>
                  intro x s Mh' Mm' hu u0 u1 s0 s1 f1 f2 Ri hz
                  have w4 : Mm' 4 x1 = Mm 4 x1 := by rw [f2.at (by decide), set0_4]
                  have w5 : Mm' 5 x1 = Mm 5 x1 := by rw [f2.at (by decide), e5]
                  obtain ⟨i1, i2, i3, i4, i5, i6, i7, i8, i9, i10⟩ := Ri
                  refine rh2.l (rX1_paint_67 hh _ _ _ _ _ _ _ _ _ _ hB ?_)
                  rw [i1, w4]
                  refine ⟨⟨by omega, by omega⟩, fun c => ?_, fun c => ⟨⟨by omega, by omega⟩, ?_⟩⟩
                  · have h1 := mul_lt (a := Mm 4 x1) (b := Mm 5 x1) (x := x) (y := y) (by omega) (by omega) (by omega) (by omega)
                    have h2 := mul_nn (a := Mm 4 x1) (b := y) (by omega) (by omega)
                    have hg := i10 (Mm 4 x1 * y + x) (by omega) (by rw [w4, w5]; exact h1)
                    have hc := Int.mul_comm y (Mm 4 x1)
                    refine ⟨⟨by omega, by omega⟩, fun g eg => ?_⟩
                    rw [hg.1] at eg
                    have hgb : s ≤ g ∧ g ≤ s + 1 := by
                      by_cases q : Mm' 3 (6144 * x1 + (Mm 4 x1 * y + x)) ≠ x6
                      · rw [rh_if_t q] at eg; omega
                      · rw [rh_if_f q] at eg; omega
                    refine ⟨⟨by omega, by omega⟩, ⟨by omega, by omega⟩, ⟨by omega, by omega⟩, ?_⟩
                    refine rh2.r (rX32_paint_64 hm _ _ _ _ _ _ _ _ _ _ ⟨⟨by omega, by omega⟩, fun d => ⟨hp, fun k ek => ?_⟩, fun d => absurd c d⟩)
                    rw [w4] at ek
                    have ek2 : k = 6144 * x1 + (Mm 4 x1 * y + x) := by omega
                    subst ek2
                    refine ⟨⟨by omega, by omega⟩, ⟨by omega, by omega⟩, fun g2 eg2 => ?_⟩
                    rw [← eg] at eg2
                    subst eg2
                    refine ⟨⟨by omega, by omega⟩, ⟨by omega, by omega⟩, ⟨by omega, by omega⟩, ?_⟩
                    refine ih2 _ (by omega) (x + 1) g2 _ _ rfl (by omega) (by omega) (by omega) (by omega) (f1.st rfl) (f2.st rfl) ?_ (fun z nz => ?_)
                    · have j1 : rh_set Mh' (251 + 39 * x1 + 1) (Mm 4 x1 * y + x) (rh_i2b x6) (251 + 39 * x1) = Mh' (251 + 39 * x1) := by funext j; exact rh_set_a (by omega)
                      have j4 : rh_set Mm' 3 (6144 * x1 + (Mm 4 x1 * y + x)) x6 4 = Mm' 4 := by funext j; exact rh_set_a (by decide)
                      have j5 : rh_set Mm' 3 (6144 * x1 + (Mm 4 x1 * y + x)) x6 5 = Mm' 5 := by funext j; exact rh_set_a (by decide)
                      unfold Rp
                      rw [j1, j4, j5]
                      refine ⟨i1, i2, i3, i4, i5, i6, i7, i8, i9, fun k k0 k1 => ?_⟩
                      by_cases e : k = Mm 4 x1 * y + x
                      · rw [e, rh_set_s, rh_set_s]
                        exact ⟨b255 z6.1 z6.2, z6.1, z6.2⟩
                      · rw [rh_set_j e, rh_set_j (by omega)]
                        exact i10 k k0 k1
                    · rw [rh_set_j (by omega)]
                      exact hz z nz
                  · refine rh2.r (rX32_paint_64 hm _ _ _ _ _ _ _ _ _ _ ⟨⟨by omega, by omega⟩, fun d => absurd d c, fun d => ⟨⟨by omega, by omega⟩, ?_⟩⟩)
                    exact ih _ (by omega) (y + 1) s _ _ rfl (by omega) (by omega) (by omega) (by omega) f1 f2 ⟨i1, i2, i3, i4, i5, i6, i7, i8, i9, i10⟩ hz
              exact key2 _ x2 s _ _ rfl (by omega) (by omega) s0 (by omega) f1 f2 Ri hz
            · refine rh1.of (rX32_paint_52 hm _ _ _ _ _ _ _ _ _ ⟨⟨by omega, by omega⟩, fun d => absurd d c, fun d => ⟨hp, hp, rfl, .inr ⟨hp.1, hp.2, Mh', Mm', rfl, rfl, f1, f2, Ri, hz⟩⟩⟩)
        exact key _ x3 0 _ _ rfl (by omega) (by omega) (by omega) (by omega) frm.rf frm.rf R00.set0 (fun z _ => rh_set_a (by decide))
      · exact stop _ (.inr z6)
    · rw [rh_if_f z]
      exact stop _ (.inl rfl)
end Dark
