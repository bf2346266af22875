/-! ===== LAYER 2: a part of a word (hasPart, isPart) ===== -/
section Part
variable {wh wm : rhW}
/-- the part at hand: its box on both sides -/
def Ptr (M1 M2 : rhM) (W H : Int) : Prop := M1 25 11 = M2 0 84 ∧ M1 25 12 = M2 0 85 ∧ M1 25 13 = M2 0 86 ∧ M1 25 14 = M2 0 87 ∧ (0 ≤ M2 0 84 ∧ M2 0 84 < M2 0 86 ∧ M2 0 86 ≤ W) ∧ (0 ≤ M2 0 85 ∧ M2 0 85 < M2 0 87 ∧ M2 0 87 ≤ H) ∧ (M2 0 87 ≤ M2 0 83 ∧ M2 0 83 - M2 0 82 ≤ M2 0 85) ∧ M2 0 86 - M2 0 84 ≤ 2 * M2 0 82
theorem Prp.fx {M1 M2 N1 N2 : rhM} {x w W H : Int} (h : Prp M1 M2 x w W H) (hx2 : 100 ≤ x) (f : frx (fun c j => (c = 25 ∧ 11 ≤ j) ∨ c = 31 ∨ c = 32) M1 N1) (g : frx (fun c j => (c = 0 ∧ 84 ≤ j ∧ j ≤ 87) ∨ c = 62) M2 N2) : Prp N1 N2 x w W H := by
  obtain ⟨a1, a2, ⟨l, t, r, b, b1, b2, b3, b4, b5, b6, b7, b8⟩, a4, a5, a6, a7, a8, a9, a10, a11⟩ := h
  have g11 : N2 11 = M2 11 := g.cell (fun j => (by omega))
  unfold Prp
  rw [g11, g 0 17 (by omega), g 0 18 (by omega), g 0 82 (by omega), g 0 83 (by omega), g 0 78 (by omega), g 0 81 (by omega), f 25 2 (by omega), f 25 3 (by omega), f 25 8 (by omega), f 25 7 (by omega)]
  refine ⟨a1.fx (f _ _ (by omega)) (f _ _ (by omega)) (f _ _ (by omega)) (f.cell (fun j => (by omega))) (f.cell (fun j => (by omega))), a2, ⟨l, t, r, b, b1, b2, b3, ?_, ?_, ?_, ?_, b8⟩, a4, a5, fun u u0 u1 => ?_, a7, a8, a9, a10, fun i i0 i1 => ?_⟩
  · rw [f _ _ (by omega), b4]
  · rw [f _ _ (by omega), b5]
  · rw [f _ _ (by omega), b6]
  · rw [f _ _ (by omega), b7]
  · rw [f _ _ (by omega), g _ _ (by omega)]; exact a6 u u0 u1
  · rw [f _ _ (by omega), f _ _ (by omega), g _ _ (by omega), g _ _ (by omega)]; exact a11 i i0 i1
theorem c_part (hh : rh_hs wh) (hm : rh_ms wm) {x w W H : Int} (hx : rh_bl wh 0 x 0) (hy : rh_bl wh 1 (x + 9) 0) (hx2 : 100 ≤ x) {Mh Mm : rhM} (P : Prp Mh Mm x w W H) (hw : 0 ≤ w ∧ w < 80) (hW : 0 ≤ W) (hWb : W ≤ 128) (hHb : H ≤ 96) (hH : 0 ≤ H) (hN : W * H ≤ 6144) (i j : Int) :
    rC2 wh YX16_hasPart 2 [(2, 25), (0, i), (0, j)] Mh wm YX32_isPart 2 [(2, 0), (0, i), (0, j)] Mm (fun r M1 r2 M2 => r = r2 ∧ (r = 0 ∨ r = 1) ∧ frx (fun c j => c = 25 ∧ 11 ≤ j ∧ j ≤ 14) Mh M1 ∧ frx (fun c j => c = 0 ∧ 84 ≤ j ∧ j ≤ 87) Mm M2 ∧ (r ≠ 0 → Ptr M1 M2 W H ∧ (Mm 0 81 ≤ 16 ∧ 0 ≤ i ∧ i < j ∧ j < Mm 0 81 ∧ j ≤ i + 3))) := by
  refine rC2.of (by decide) (LE0 rfl) (by decide) (LE0 rfl) ?_
  obtain ⟨a1, a2, ⟨l, t, r, b, b1, b2, b3, b4, b5, b6, b7, b8⟩, a4, a5, -, -, -, a9, a10, a11⟩ := P
  have hq : (Mh 25 7 ≠ -1 ∧ (0 ≤ i ∧ (i < j ∧ (j ≤ Mh 25 7 ∧ j ≤ i + 3)))) ↔ (Mm 0 81 ≤ 16 ∧ (0 ≤ i ∧ (i < j ∧ (j < Mm 0 81 ∧ j ≤ i + 3)))) := by
    rw [a10]; split <;> omega
  refine rh2.l (rX16_hasPart_0 hh _ _ _ ?_)
  rw [propext hq]
  refine ⟨fun y1 y2 y3 y4 => by rw [a10] at y1 y4; split at y4 <;> exact ⟨by omega, by omega⟩, fun c => ?_, fun c => ?_⟩
  · obtain ⟨i1, i2, -⟩ := a11 i (by omega) (by omega)
    obtain ⟨j1, j2, -⟩ := a11 j (by omega) (by omega)
    rw [(i1 (by omega)).1, (j1 (by omega)).1]
    refine ⟨⟨by omega, by omega⟩, ⟨by omega, by omega⟩, ?_⟩
    obtain ⟨r1, M1, E1, f1, v1, X1⟩ := c_hasColumns hh (a := Mm 60 i) (b := Mm 60 j) (l0 := l) (r0 := r) hx hy hx2 Mh a1 hW hWb hHb hN hw b2 b5 b7 b8 i2.1 j2.2
    refine rh2.sl (vX16_hasPart_45 hh E1 (LE0 rfl)) ?_
    refine rh2.r (rX32_isPart_0 hm _ _ _ ?_)
    refine ⟨fun _ _ _ _ => ⟨by omega, by omega⟩, fun v ev => ⟨fun _ => ⟨⟨by omega, by omega⟩, ⟨by omega, by omega⟩, ?_⟩, fun z => ?_⟩⟩
    · obtain ⟨r2, M2, E2, f2, v2, X2⟩ := c_findBox hm (a := Mm 60 i) (b := Mm 60 j) Mm a2.1 a2.2 hW hWb hHb hH hN i2.1 j2.2
      refine rh2.sr (vX32_isPart_61 hm E2 (LE0 rfl)) ?_
      refine rh2.l (rX16_hasPart_48 hh _ _ ?_)
      have e82 : M2 0 82 = Mm 0 82 := f2 _ _ (by omega)
      have e83 : M2 0 83 = Mm 0 83 := f2 _ _ (by omega)
      have e25 : M1 25 2 = Mm 0 82 := by rw [f1 _ _ (by omega)]; exact a4.1
      rw [e25]
      rcases X1 with X1 | X1
      · rcases X2 with X2 | X2
        · rw [X1.2.2.2.1, rh_if_f (by omega)] at v1
          rw [X2.2.2.2.1, rh_if_f (by omega)] at v2
          rw [v1]
          refine ⟨fun z => absurd rfl z, fun z => absurd rfl z, ?_⟩
          refine rh1.of (rX32_isPart_64 hm _ _ ?_)
          rw [v2]
          refine ⟨fun z => absurd rfl z, fun z => absurd rfl z, ?_, ?_, f1, f2, ?_⟩
          · rw [rh_if_f (fun z => z.1 rfl), rh_if_f (fun z => z.1 rfl)]
          · rw [rh_if_f (fun z => z.1 rfl)]; exact .inl rfl
          · intro z; rw [rh_if_f (fun z => z.1 rfl)] at z; exact absurd rfl z
        · obtain ⟨-, ⟨u, v, z, -⟩, -⟩ := X2
          exact absurd z (X1.1 u v)
      · rcases X2 with X2 | X2
        · obtain ⟨-, ⟨u, v, z, -⟩, -⟩ := X1
          exact absurd z (X2.1 u v)
        · obtain ⟨q1, q2, q3, q4⟩ := X1.one X2
          have hb : (0 ≤ M2 0 84 ∧ M2 0 84 < M2 0 86 ∧ M2 0 86 ≤ W) ∧ (0 ≤ M2 0 85 ∧ M2 0 85 < M2 0 87 ∧ M2 0 87 ≤ H) ∧ M2 0 87 ≤ Mm 0 83 ∧ Mm 0 83 - Mm 0 82 ≤ M2 0 85 := by
            obtain ⟨g0, ⟨u1, v1', g1, e1⟩, ⟨u2, v2', g2, e2⟩, ⟨u3, v3', g3, e3⟩, ⟨u4, v4', g4, e4⟩⟩ := X2
            have h1 := g0 _ _ g1
            have t1 := g1.1
            have t2 := g2.2.1
            have t3 := g3.1
            have t4 := (b8 u4 v4' (by have := g4.1; omega) (by have := g4.1; omega) g4.2.1.1 g4.2.1.2 g4.2.2).2
            have t5 := g4.2.1
            have t6 := (b8 u2 v2' (by have := g2.1; omega) (by have := g2.1; omega) g2.2.1.1 g2.2.1.2 g2.2.2).2
            omega
          rw [rh_if_t (show 0 < M1 25 13 by omega)] at v1
          rw [rh_if_t (show 0 < M2 0 86 by omega)] at v2
          rw [v1, q1, q3]
          refine ⟨fun _ => ⟨by omega, by omega⟩, fun _ => ⟨by omega, by omega⟩, ?_⟩
          refine rh1.of (rX32_isPart_64 hm _ _ ?_)
          rw [v2, e82]
          refine ⟨fun _ => ⟨by omega, by omega⟩, fun _ => ⟨by omega, by omega⟩, rfl, ?_, f1, f2, fun z => ?_⟩
          · have := if1_b (P := (1 : Int) ≠ 0 ∧ M2 0 86 - M2 0 84 ≤ 2 * Mm 0 82); omega
          · rw [if1_ne] at z
            refine ⟨⟨q1, q2, q3, q4, hb.1, hb.2.1, by rw [e83, e82]; exact hb.2.2, by rw [e82]; exact z.2⟩, c⟩
    · rw [rh_if_t c] at ev
      omega
  · refine rh1.of (rX32_isPart_0 hm _ _ _ ?_)
    refine ⟨fun _ _ _ _ => ⟨by omega, by omega⟩, fun v ev => ⟨fun z => ?_, fun _ => ⟨rfl, .inl rfl, frx.rf, frx.rf, fun z => absurd rfl z⟩⟩⟩
    rw [rh_if_f c] at ev
    exact absurd ev z
end Part
