/-! ===== LAYER 2: layout, laid, block, line ===== -/
section LayoutOp
variable {wh wm : rhW}
def Rly (Mh Mm : rhM) : Prop := ∀ p : Int, 0 ≤ p → p < 8 → Lyt Mh Mm (251 + 39 * p) p
/-- what a layout leaves -/
def Play (Mh Mm M' M2' : rhM) : Prop := (frx (fun _ _ => False) Mh M' ∧ frx (fun c j => c = 0 ∧ j = 0) Mm M2') ∨ ∃ p : Int, (0 ≤ p ∧ p < 8) ∧ frx (fun c j => Fsr (251 + 39 * p) c j ∨ Hly (251 + 39 * p) c j) Mh M' ∧ frx (fun c j => (c = 0 ∧ j = 0) ∨ Gly p c j) Mm M2' ∧ Lyt M' M2' (251 + 39 * p) p ∧ M2' 23 p = 1
theorem op_layout (hh : rh_hs wh) (hm : rh_ms wm) {Mh Mm : rhM} (R : Rpg Mh Mm) (S : Rsr Mh) (x1 x2 x3 : Int) : rC2 wh YX1_layout 7 [(2, 0), (0, x1), (0, x2), (0, x3)] Mh wm YX32_layout 6 [(2, 0), (0, x1), (0, x2), (0, x3)] Mm (fun r M' r2 M2' => r = r2 ∧ Rsr M' ∧ Play Mh Mm M' M2') := by
  refine rC2.of (by decide) (LE0 rfl) (by decide) (LE0 rfl) ?_
  have e4 : rh_set Mm 0 0 0 4 x1 = Mm 4 x1 := rh_set_a (by decide)
  have f0 : frx (fun c j => c = 0 ∧ j = 0) Mm (rh_set Mm 0 0 0) := frx.rf.st ⟨rfl, rfl⟩
  refine rh2.l (rX1_layout_0 hh _ _ _ _ ?_)
  refine ⟨(by omega), fun c => ?_, fun c => ⟨fun d => ?_, fun d => ?_⟩⟩
  · refine rh1.of (rX32_layout_0 hm _ _ _ _ ?_)
    rw [e4]
    refine ⟨(by omega), fun d => ⟨rfl, S, .inl ⟨frx.rf, f0⟩⟩, fun d => ?_⟩
    have := (R x1 (by omega) (by omega)).2
    omega
  · refine rh1.of (rX32_layout_0 hm _ _ _ _ ?_)
    rw [e4]
    refine ⟨(by omega), fun e => ?_, fun e => ⟨fun _ => ⟨rfl, S, .inl ⟨frx.rf, f0⟩⟩, fun g => absurd d g⟩⟩
    have := (R x1 (by omega) (by omega)).2
    omega
  · have hp : 0 ≤ x1 ∧ x1 < 8 := ⟨by omega, by omega⟩
    obtain ⟨R1, b⟩ := R x1 hp.1 hp.2
    have hW : 0 < Mm 4 x1 := (by omega)
    obtain ⟨r, M1, E1, rfl, f1, h4, S1, R2⟩ := c_searched hh hp R1 S
    refine rh2.sl (vX1_layout_40 hh E1 (LE0 rfl)) ?_
    refine rh2.l (rX1_layout_43 hh _ _ _ _ (hs_pg hh hp.1 hp.2) ?_)
    refine rh2.r (rX32_layout_0 hm _ _ _ _ ?_)
    rw [e4]
    refine ⟨(by omega), fun e => by omega, fun e => ⟨fun g => absurd g d, fun g => ?_⟩⟩
    have R3 : Rp M1 (rh_set Mm 0 0 0) (251 + 39 * x1) x1 := R2.fx rfl rfl rfl (rh_set_n (by omega)) (rh_set_n (by omega)) (rh_set_n (by omega))
    obtain ⟨r1, M2, r2, N2, E2, K2, g1, g2, LY, t1⟩ := c_make hh hm hp (a := x2) (b := x3) ⟨by omega, by omega⟩ ⟨by omega, by omega⟩ R3 (by rw [e4]; exact hW) h4 (S1 x1 hp.1 hp.2 h4)
    have hy : rh_bl wh 1 (251 + 39 * x1 + 9) 0 := by
      have := hs_ly hh hp.1 hp.2
      rwa [show 260 + 39 * x1 = 251 + 39 * x1 + 9 by omega] at this
    refine rh2.sl (vX1_layout_62 hy E2 (LE0 rfl)) (rh2.sr (vX32_layout_47 hm K2 (LE0 rfl)) ?_)
    refine rh2.l (rX1_layout_65 hh _ _ (hs_pg hh hp.1 hp.2) ?_)
    refine rh1.of (rX32_layout_50 hm _ _ ?_)
    refine ⟨hp, ?_, S1.fx g1 (fun p a j p0 p1 h => by unfold Hly at h; omega), .inr ⟨x1, hp, (f1.w (fun _ _ h => .inl h)).tr (g1.w (fun _ _ h => .inr h)), (f0.w (fun _ _ h => .inl h)).tr (g2.w (fun _ _ h => .inr h)), LY, t1⟩⟩
    obtain ⟨tot, -, w, -⟩ := (LY.2.2 (by rw [t1]; decide)).2.2.2
    exact w.1
theorem LyB.m {Mh Mm : rhM} {x p i : Int} (h : LyB Mh Mm x p) (i0 : 0 ≤ i) (i1 : i < Mm 24 p) : Mh (x + 10) i = Mm 27 (20 * p + i) ∧ Mh (x + 11) i = Mm 28 (20 * p + i) ∧ Mh (x + 12) i = Mm 29 (20 * p + i) ∧ Mh (x + 13) i = Mm 30 (20 * p + i) ∧ Mh (x + 14) i = Mm 31 (20 * p + i) ∧ Mh (x + 15) i = Mm 32 (20 * p + i) ∧ (0 ≤ Mm 27 (20 * p + i) ∧ Mm 27 (20 * p + i) < Mm 29 (20 * p + i) ∧ Mm 29 (20 * p + i) ≤ 128) ∧ (0 ≤ Mm 28 (20 * p + i) ∧ Mm 28 (20 * p + i) < Mm 30 (20 * p + i) ∧ Mm 30 (20 * p + i) ≤ 96) := by
  have := h.2.2 i i0 i1
  rwa [show x + 9 + 1 = x + 10 by omega, show x + 9 + 2 = x + 11 by omega, show x + 9 + 3 = x + 12 by omega, show x + 9 + 4 = x + 13 by omega, show x + 9 + 5 = x + 14 by omega, show x + 9 + 6 = x + 15 by omega] at this
theorem LnR.m {Mh Mm : rhM} {x p l : Int} (h : LnR Mh Mm x p l) : Mh (x + 18) l = Mm 33 (60 * p + l) ∧ Mh (x + 19) l = Mm 34 (60 * p + l) ∧ Mh (x + 20) l = Mm 35 (60 * p + l) ∧ Mh (x + 21) l = Mm 36 (60 * p + l) ∧ Mh (x + 22) (l + 1) - Mh (x + 22) l = Mm 37 (60 * p + l) ∧ Mh (x + 23) l = Mm 38 (60 * p + l) ∧ (0 ≤ Mm 33 (60 * p + l) ∧ Mm 33 (60 * p + l) < 20) ∧ (0 ≤ Mm 34 (60 * p + l) ∧ Mm 34 (60 * p + l) < Mm 35 (60 * p + l) ∧ Mm 35 (60 * p + l) ≤ 96) ∧ (0 ≤ Mm 37 (60 * p + l) ∧ Mm 37 (60 * p + l) ≤ 300) := by
  have := h
  unfold LnR at this
  rwa [show x + 9 + 9 = x + 18 by omega, show x + 9 + 10 = x + 19 by omega, show x + 9 + 11 = x + 20 by omega, show x + 9 + 12 = x + 21 by omega, show x + 9 + 13 = x + 22 by omega, show x + 9 + 14 = x + 23 by omega] at this
/-- laidOut and laidOrNot -/
theorem lay_v {Mh Mm : rhM} (R : Rpg Mh Mm) (Y : Rly Mh Mm) (x1 : Int) : rh_if (¬ (((0 ≤ x1) ∧ (x1 ≤ 7)) ∧ ((Mh (251 + (39 * x1)) 3) ≠ 0))) ((-101) : Int) (rh_if ((Mh ((251 + (39 * x1)) + 9) 0) ≠ 0) (0 : Int) (-103)) = rh_if (¬ (((0 ≤ x1) ∧ (x1 ≤ 7)) ∧ (0 < ((rh_set Mm 0 0 0) 4 x1)))) ((-101) : Int) (rh_if (((rh_set Mm 0 0 0) 23 x1) = 0) ((-103) : Int) 0) ∧
    ((rh_if (¬ (((0 ≤ x1) ∧ (x1 ≤ 7)) ∧ (0 < ((rh_set Mm 0 0 0) 4 x1)))) ((-101) : Int) (rh_if (((rh_set Mm 0 0 0) 23 x1) = 0) ((-103) : Int) 0) = -101 ∧ ¬ ((0 ≤ x1 ∧ x1 ≤ 7) ∧ 0 < Mm 4 x1)) ∨ (rh_if (¬ (((0 ≤ x1) ∧ (x1 ≤ 7)) ∧ (0 < ((rh_set Mm 0 0 0) 4 x1)))) ((-101) : Int) (rh_if (((rh_set Mm 0 0 0) 23 x1) = 0) ((-103) : Int) 0) = -103 ∧ ((0 ≤ x1 ∧ x1 ≤ 7) ∧ 0 < Mm 4 x1) ∧ Mm 23 x1 = 0) ∨ (rh_if (¬ (((0 ≤ x1) ∧ (x1 ≤ 7)) ∧ (0 < ((rh_set Mm 0 0 0) 4 x1)))) ((-101) : Int) (rh_if (((rh_set Mm 0 0 0) 23 x1) = 0) ((-103) : Int) 0) = 0 ∧ ((0 ≤ x1 ∧ x1 ≤ 7) ∧ 0 < Mm 4 x1) ∧ Mm 23 x1 ≠ 0 ∧ Mh (251 + 39 * x1) 4 ≠ 0 ∧ LyB Mh Mm (251 + 39 * x1) x1 ∧ LyL Mh Mm (251 + 39 * x1) x1 ∧ LyW Mh Mm (251 + 39 * x1) x1)) := by
  rw [rh_set_a (show (4 : Int) ≠ 0 by decide), rh_set_a (show (23 : Int) ≠ 0 by decide)]
  by_cases hv : (0 ≤ x1 ∧ x1 ≤ 7) ∧ 0 < Mm 4 x1
  · have h1 := (R x1 (by omega) (by omega)).2.mpr hv.2
    obtain ⟨y1, y2, y3⟩ := Y x1 (by omega) (by omega)
    have nz : ¬ ¬ ((0 ≤ x1 ∧ x1 ≤ 7) ∧ Mh (251 + 39 * x1) 3 ≠ 0) := fun z => z ⟨hv.1, h1⟩
    have nz2 : ¬ ¬ ((0 ≤ x1 ∧ x1 ≤ 7) ∧ 0 < Mm 4 x1) := fun z => z hv
    rw [rh_if_f nz, rh_if_f nz2, y1]
    by_cases h2 : Mm 23 x1 = 0
    · have h2' : ¬ (Mm 23 x1 ≠ 0) := fun z => z h2
      rw [rh_if_f h2', rh_if_t h2]
      exact ⟨rfl, .inr (.inl ⟨rfl, hv, h2⟩)⟩
    · rw [rh_if_t h2, rh_if_f h2]
      exact ⟨rfl, .inr (.inr ⟨rfl, hv, h2, y3 h2⟩)⟩
  · rw [rh_if_t hv, rh_if_t (fun z => hv ⟨z.1, (R x1 (by omega) (by omega)).2.mp z.2⟩)]
    exact ⟨rfl, .inl ⟨rfl, hv⟩⟩
theorem op_laid (hh : rh_hs wh) (hm : rh_ms wm) {Mh Mm : rhM} (R : Rpg Mh Mm) (Y : Rly Mh Mm) (x1 x2 : Int) : rC2 wh YX1_laid 4 [(2, 0), (0, x1), (0, x2)] Mh wm YX32_laid 3 [(2, 0), (0, x1), (0, x2)] Mm (fun r M' r2 M2' => r = r2 ∧ M' = Mh ∧ M2' = rh_set Mm 0 0 0) := by
  refine rC2.of (by decide) (LE0 rfl) (by decide) (LE0 rfl) ?_
  obtain ⟨e, cs⟩ := lay_v R Y x1
  refine rh2.l (rX1_laid_0 hh _ _ _ ?_)
  rw [e]
  have e4 : rh_set Mm 0 0 0 4 x1 = Mm 4 x1 := rh_set_a (by decide)
  have e23 : rh_set Mm 0 0 0 23 x1 = Mm 23 x1 := rh_set_a (by decide)
  have e24 : rh_set Mm 0 0 0 24 x1 = Mm 24 x1 := rh_set_a (by decide)
  have e25 : rh_set Mm 0 0 0 25 x1 = Mm 25 x1 := rh_set_a (by decide)
  have e26 : rh_set Mm 0 0 0 26 x1 = Mm 26 x1 := rh_set_a (by decide)
  refine ⟨(by omega), (by omega), fun v ev => ?_⟩
  rcases cs with ⟨c, hv⟩ | ⟨c, hv, h2⟩ | ⟨c, hv, h2, h4, B, L, ⟨tot, -, W, -⟩⟩
  · rw [c] at ev
    refine ⟨fun _ => ?_, fun z => absurd ev z⟩
    refine rh1.of (rX32_laid_0 hm _ _ _ ?_)
    rw [e4, e23, e24, e25, e26]
    exact ⟨(by omega), fun _ => ⟨rfl, rfl, rfl⟩, fun z => absurd hv z⟩
  · rw [c] at ev
    refine ⟨fun z => by omega, fun _ => ⟨fun d => ?_, fun d => ⟨⟨by omega, by omega⟩, fun _ => ?_, fun z => by omega⟩⟩⟩
    · refine rh1.of (rX32_laid_0 hm _ _ _ ?_)
      rw [e4, e23, e24, e25, e26]
      exact ⟨(by omega), fun z => absurd hv z, fun _ => ⟨fun _ => ⟨rfl, rfl, rfl⟩, fun z => absurd d z⟩⟩
    · refine rh1.of (rX32_laid_0 hm _ _ _ ?_)
      rw [e4, e23, e24, e25, e26]
      exact ⟨(by omega), fun z => absurd hv z, fun _ => ⟨fun z => absurd z d, fun _ => ⟨⟨by omega, by omega⟩, fun _ => ⟨ev, rfl, rfl⟩, fun z => absurd h2 z⟩⟩⟩
  · rw [c] at ev
    refine ⟨fun z => by omega, fun _ => ⟨fun d => ?_, fun d => ⟨⟨by omega, by omega⟩, fun z => absurd ev z, fun _ => ?_⟩⟩⟩
    · refine rh1.of (rX32_laid_0 hm _ _ _ ?_)
      rw [e4, e23, e24, e25, e26]
      exact ⟨(by omega), fun z => absurd hv z, fun _ => ⟨fun _ => ⟨rfl, rfl, rfl⟩, fun z => absurd d z⟩⟩
    · refine rh1.of (rX32_laid_0 hm _ _ _ ?_)
      rw [e4, e23, e24, e25, e26, B.1, L.1, W.1]
      refine ⟨(by omega), fun z => absurd hv z, fun _ => ⟨fun z => absurd z d, fun _ => ⟨⟨by omega, by omega⟩, fun z => absurd z h2, fun _ => ⟨fun z => ⟨⟨by omega, by omega⟩, ?_, rfl, rfl⟩, fun z => ⟨fun _ => ⟨by omega, by omega⟩, fun _ => ⟨by omega, by omega⟩, ?_, rfl, rfl⟩⟩⟩⟩⟩
      · rw [rh_if_t z]
      · rw [rh_if_f z]
theorem op_block (hh : rh_hs wh) (hm : rh_ms wm) {Mh Mm : rhM} (R : Rpg Mh Mm) (Y : Rly Mh Mm) (x1 x2 x3 : Int) : rC2 wh YX1_block 4 [(2, 0), (0, x1), (0, x2), (0, x3)] Mh wm YX32_block 4 [(2, 0), (0, x1), (0, x2), (0, x3)] Mm (fun r M' r2 M2' => r = r2 ∧ M' = Mh ∧ M2' = rh_set Mm 0 0 0) := by
  refine rC2.of (by decide) (LE0 rfl) (by decide) (LE0 rfl) ?_
  obtain ⟨e, cs⟩ := lay_v R Y x1
  have en : ∀ c j, 0 < c → rh_set Mm 0 0 0 c j = Mm c j := fun c j h => rh_set_a (by omega)
  refine rh2.l (rX1_block_0 hh _ _ _ _ ?_)
  refine ⟨(by omega), (by omega), fun v ev => ?_⟩
  rw [e] at ev
  by_cases hz : v = 0
  · rcases cs with ⟨c, hv⟩ | ⟨c, hv, h2⟩ | ⟨c, hv, h2, h4, B, -⟩
    · omega
    · omega
    · have B1 := B.1
      have B2 := B.2.1
      refine ⟨fun z => absurd hz z, fun _ => ⟨⟨by omega, by omega⟩, ⟨by omega, by omega⟩, fun d => ?_, fun d => ?_⟩⟩
      · refine rh1.of (rX32_block_0 hm _ _ _ _ ?_)
        refine ⟨(by omega), (by omega), fun w ew => ⟨fun z => by omega, fun _ => ⟨⟨by omega, by omega⟩, ?_⟩⟩⟩
        rw [en 24 _ (by decide)]
        exact ⟨⟨by omega, by omega⟩, fun _ => ⟨rfl, rfl, rfl⟩, fun z => by omega⟩
      · have hi : 0 ≤ x2 ∧ x2 < Mm 24 x1 := ⟨by omega, by omega⟩
        obtain ⟨k1, k2, k3, k4, k5, k6, k7, k8⟩ := B.m hi.1 hi.2
        rw [k1, k2, k3, k4, k5, k6]
        have hr : 0 ≤ x2 ∧ x2 < 20 := ⟨by omega, by omega⟩
        have hq : 0 ≤ 20 * x1 + x2 ∧ 20 * x1 + x2 < 160 := ⟨by omega, by omega⟩
        have M0 : ∀ (P : Int → rhM → Prop), (∀ r, (x3 = 0 → r = Mm 27 (20 * x1 + x2)) → (x3 = 1 → r = Mm 28 (20 * x1 + x2)) → (x3 = 2 → r = Mm 29 (20 * x1 + x2) - Mm 27 (20 * x1 + x2)) → (x3 = 3 → r = Mm 30 (20 * x1 + x2) - Mm 28 (20 * x1 + x2)) → (x3 = 4 → r = Mm 31 (20 * x1 + x2)) → (x3 = 5 → r = Mm 32 (20 * x1 + x2)) → (¬ (0 ≤ x3 ∧ x3 ≤ 5) → r = -102) → P r (rh_set Mm 0 0 0)) → rh1 wm YX32_block 4 0 [(0, 2, 0), (1, 0, x1), (2, 0, x2), (3, 0, x3)] [] Mm P := by
          intro P HP
          refine rh1.of (rX32_block_0 hm _ _ _ _ ?_)
          refine ⟨(by omega), (by omega), fun w ew => ⟨fun z => by omega, fun _ => ⟨⟨by omega, by omega⟩, ?_⟩⟩⟩
          rw [en 24 _ (by decide), en 27 _ (by decide), en 28 _ (by decide), en 29 _ (by decide), en 30 _ (by decide), en 31 _ (by decide), en 32 _ (by decide)]
          refine ⟨⟨by omega, by omega⟩, fun z => by omega, fun _ => ⟨⟨by omega, by omega⟩, fun z => ⟨hq, HP _ ?_ ?_ ?_ ?_ ?_ ?_ ?_⟩, fun z0 => ⟨fun z => ⟨hq, HP _ ?_ ?_ ?_ ?_ ?_ ?_ ?_⟩, fun z1 => ⟨fun z => ⟨hq, hq, ⟨by omega, by omega⟩, HP _ ?_ ?_ ?_ ?_ ?_ ?_ ?_⟩, fun z2 => ⟨fun z => ⟨hq, hq, ⟨by omega, by omega⟩, HP _ ?_ ?_ ?_ ?_ ?_ ?_ ?_⟩, fun z3 => ⟨fun z => ⟨hq, HP _ ?_ ?_ ?_ ?_ ?_ ?_ ?_⟩, fun z4 => ⟨fun z => ⟨hq, HP _ ?_ ?_ ?_ ?_ ?_ ?_ ?_⟩, fun z5 => HP _ ?_ ?_ ?_ ?_ ?_ ?_ ?_⟩⟩⟩⟩⟩⟩⟩
          all_goals first
            | exact fun _ => rfl
            | exact fun y => absurd y (by omega)
        refine ⟨fun z => ⟨hr, ?_⟩, fun z0 => ⟨fun z => ⟨hr, ?_⟩, fun z1 => ⟨fun z => ⟨hr, hr, ⟨by omega, by omega⟩, ?_⟩, fun z2 => ⟨fun z => ⟨hr, hr, ⟨by omega, by omega⟩, ?_⟩, fun z3 => ⟨fun z => ⟨hr, ?_⟩, fun z4 => ⟨fun z => ⟨hr, ?_⟩, fun z5 => ?_⟩⟩⟩⟩⟩⟩
        all_goals refine M0 _ (fun r h0 h1 h2 h3 h4 h5 h6 => ⟨?_, rfl, rfl⟩)
        · exact (h0 z).symm
        · exact (h1 z).symm
        · exact (h2 z).symm
        · exact (h3 z).symm
        · exact (h4 z).symm
        · exact (h5 z).symm
        · exact (h6 (by omega)).symm
  · refine ⟨fun _ => ?_, fun z => absurd z (fun y => y hz)⟩
    refine rh1.of (rX32_block_0 hm _ _ _ _ ?_)
    refine ⟨(by omega), (by omega), fun w ew => ?_⟩
    rw [← ev] at ew
    refine ⟨fun _ => ⟨ew.symm, rfl, rfl⟩, fun z => ?_⟩
    rcases cs with ⟨c, hv⟩ | ⟨c, hv, h2⟩ | ⟨c, hv, h2, h4, B, -⟩
    · omega
    · omega
    · omega
theorem op_line (hh : rh_hs wh) (hm : rh_ms wm) {Mh Mm : rhM} (R : Rpg Mh Mm) (Y : Rly Mh Mm) (x1 x2 x3 : Int) : rC2 wh YX1_line 4 [(2, 0), (0, x1), (0, x2), (0, x3)] Mh wm YX32_line 4 [(2, 0), (0, x1), (0, x2), (0, x3)] Mm (fun r M' r2 M2' => r = r2 ∧ M' = Mh ∧ M2' = rh_set Mm 0 0 0) := by
  refine rC2.of (by decide) (LE0 rfl) (by decide) (LE0 rfl) ?_
  obtain ⟨e, cs⟩ := lay_v R Y x1
  have en : ∀ c j, 0 < c → rh_set Mm 0 0 0 c j = Mm c j := fun c j h => rh_set_a (by omega)
  refine rh2.l (rX1_line_0 hh _ _ _ _ ?_)
  refine ⟨(by omega), (by omega), fun v ev => ?_⟩
  rw [e] at ev
  by_cases hz : v = 0
  · rcases cs with ⟨c, hv⟩ | ⟨c, hv, h2⟩ | ⟨c, hv, h2, h4, -, B, W⟩
    · omega
    · omega
    · have B1 := B.1
      have B2 := B.2.1
      refine ⟨fun z => absurd hz z, fun _ => ⟨⟨by omega, by omega⟩, ⟨by omega, by omega⟩, fun d => ?_, fun d => ?_⟩⟩
      · refine rh1.of (rX32_line_0 hm _ _ _ _ ?_)
        refine ⟨(by omega), (by omega), fun w ew => ⟨fun z => by omega, fun _ => ⟨⟨by omega, by omega⟩, ?_⟩⟩⟩
        rw [en 25 _ (by decide)]
        exact ⟨⟨by omega, by omega⟩, fun _ => ⟨rfl, rfl, rfl⟩, fun z => by omega⟩
      · have hi : 0 ≤ x2 ∧ x2 < Mm 25 x1 := ⟨by omega, by omega⟩
        obtain ⟨k1, k2, k3, k4, k5, k6, k7, k8, k9⟩ := (B.2.2 x2 hi.1 hi.2).m
        rw [k1, k2, k3, k4, k6]
        have hr : 0 ≤ x2 ∧ x2 < 60 := ⟨by omega, by omega⟩
        have hq : 0 ≤ 60 * x1 + x2 ∧ 60 * x1 + x2 < 480 := ⟨by omega, by omega⟩
        have M0 : ∀ (P : Int → rhM → Prop), (∀ r, (x3 = 0 → r = Mm 33 (60 * x1 + x2)) → (x3 = 1 → r = Mm 34 (60 * x1 + x2)) → (x3 = 2 → r = Mm 35 (60 * x1 + x2)) → (x3 = 3 → r = Mm 36 (60 * x1 + x2)) → (x3 = 4 → r = Mm 37 (60 * x1 + x2)) → (x3 = 5 → r = Mm 38 (60 * x1 + x2)) → (¬ (0 ≤ x3 ∧ x3 ≤ 5) → r = -102) → P r (rh_set Mm 0 0 0)) → rh1 wm YX32_line 4 0 [(0, 2, 0), (1, 0, x1), (2, 0, x2), (3, 0, x3)] [] Mm P := by
          intro P HP
          refine rh1.of (rX32_line_0 hm _ _ _ _ ?_)
          refine ⟨(by omega), (by omega), fun w ew => ⟨fun z => by omega, fun _ => ⟨⟨by omega, by omega⟩, ?_⟩⟩⟩
          rw [en 25 _ (by decide), en 33 _ (by decide), en 34 _ (by decide), en 35 _ (by decide), en 36 _ (by decide), en 37 _ (by decide), en 38 _ (by decide)]
          refine ⟨⟨by omega, by omega⟩, fun z => by omega, fun _ => ⟨⟨by omega, by omega⟩, fun z => ⟨hq, HP _ ?_ ?_ ?_ ?_ ?_ ?_ ?_⟩, fun z0 => ⟨fun z => ⟨hq, HP _ ?_ ?_ ?_ ?_ ?_ ?_ ?_⟩, fun z1 => ⟨fun z => ⟨hq, HP _ ?_ ?_ ?_ ?_ ?_ ?_ ?_⟩, fun z2 => ⟨fun z => ⟨hq, HP _ ?_ ?_ ?_ ?_ ?_ ?_ ?_⟩, fun z3 => ⟨fun z => ⟨hq, HP _ ?_ ?_ ?_ ?_ ?_ ?_ ?_⟩, fun z4 => ⟨fun z => ⟨hq, HP _ ?_ ?_ ?_ ?_ ?_ ?_ ?_⟩, fun z5 => HP _ ?_ ?_ ?_ ?_ ?_ ?_ ?_⟩⟩⟩⟩⟩⟩⟩
          all_goals first
            | exact fun _ => rfl
            | exact fun y => absurd y (by omega)
        rw [k5]
        refine ⟨fun z => ⟨hr, ?_⟩, fun z0 => ⟨fun z => ⟨hr, ?_⟩, fun z1 => ⟨fun z => ⟨hr, ?_⟩, fun z2 => ⟨fun z => ⟨hr, ?_⟩, fun z3 => ⟨fun z => ⟨⟨by omega, by omega⟩, ⟨by omega, by omega⟩, ⟨by omega, by omega⟩, ?_⟩, fun z4 => ⟨fun z => ⟨hr, ?_⟩, fun z5 => ?_⟩⟩⟩⟩⟩⟩
        all_goals refine M0 _ (fun r h0 h1 h2 h3 h4 h5 h6 => ⟨?_, rfl, rfl⟩)
        · exact (h0 z).symm
        · exact (h1 z).symm
        · exact (h2 z).symm
        · exact (h3 z).symm
        · exact (h4 z).symm
        · exact (h5 z).symm
        · exact (h6 (by omega)).symm
  · refine ⟨fun _ => ?_, fun z => absurd z (fun y => y hz)⟩
    refine rh1.of (rX32_line_0 hm _ _ _ _ ?_)
    refine ⟨(by omega), (by omega), fun w ew => ?_⟩
    rw [← ev] at ew
    refine ⟨fun _ => ⟨ew.symm, rfl, rfl⟩, fun z => ?_⟩
    rcases cs with ⟨c, hv⟩ | ⟨c, hv, h2⟩ | ⟨c, hv, h2, h4, B, -⟩
    · omega
    · omega
    · omega
end LayoutOp
