/-! ===== LAYER 2: op learnText ===== -/
section LearnT
variable {wh wm : rhW}
def Flw (c j : Int) : Prop := (c = 25 ∧ 11 ≤ j) ∨ c = 31 ∨ c = 32 ∨ (41 ≤ c ∧ c ≤ 48)
def Glw (c j : Int) : Prop := (c = 0 ∧ 84 ≤ j ∧ j ≤ 89) ∨ (62 ≤ c ∧ c ≤ 69)
theorem Prp.fw {M1 M2 N1 N2 : rhM} {x w W H : Int} (h : Prp M1 M2 x w W H) (hx2 : 100 ≤ x) (f : frx Flw M1 N1) (g : frx Glw M2 N2) : Prp N1 N2 x w W H := by
  obtain ⟨a1, a2, ⟨l, t, r, b, b1, b2, b3, b4, b5, b6, b7, b8⟩, a4, a5, a6, a7, a8, a9, a10, a11⟩ := h
  have g11 : N2 11 = M2 11 := g.cell (fun j => by unfold Glw; omega)
  unfold Prp
  rw [g11, g 0 17 (by unfold Glw; omega), g 0 18 (by unfold Glw; omega), g 0 82 (by unfold Glw; omega), g 0 83 (by unfold Glw; omega), g 0 78 (by unfold Glw; omega), g 0 81 (by unfold Glw; omega), f 25 2 (by unfold Flw; omega), f 25 3 (by unfold Flw; omega), f 25 8 (by unfold Flw; omega), f 25 7 (by unfold Flw; omega)]
  refine ⟨a1.fx (f _ _ (by unfold Flw; omega)) (f _ _ (by unfold Flw; omega)) (f _ _ (by unfold Flw; omega)) (f.cell (fun j => by unfold Flw; omega)) (f.cell (fun j => by unfold Flw; omega)), a2, ⟨l, t, r, b, b1, b2, b3, ?_, ?_, ?_, ?_, b8⟩, a4, a5, fun u u0 u1 => ?_, a7, a8, a9, a10, fun i i0 i1 => ?_⟩
  · rw [f _ _ (by unfold Flw; omega), b4]
  · rw [f _ _ (by unfold Flw; omega), b5]
  · rw [f _ _ (by unfold Flw; omega), b6]
  · rw [f _ _ (by unfold Flw; omega), b7]
  · rw [f _ _ (by unfold Flw; omega), g _ _ (by unfold Glw; omega)]; exact a6 u u0 u1
  · rw [f _ _ (by unfold Flw; omega), f _ _ (by unfold Flw; omega), g _ _ (by unfold Glw; omega), g _ _ (by unfold Glw; omega)]; exact a11 i i0 i1
theorem Prr.fw {M1 M2 N1 N2 : rhM} {W H : Int} (h : Prr M1 M2 W H) (f : frx Flw M1 N1) (g : frx Glw M2 N2) : Prr N1 N2 W H := by
  have g11 : N2 11 = M2 11 := g.cell (fun j => by unfold Glw; omega)
  unfold Prr
  rw [g11, g 0 78 (by unfold Glw; omega)]
  refine ⟨h.1, fun r r0 r1 => ?_⟩
  rw [f 29 r (by unfold Flw; omega), f 30 r (by unfold Flw; omega), g 58 r (by unfold Glw; omega), g 59 r (by unfold Glw; omega)]
  exact h.2 r r0 r1
/-- the runs of one word -/
theorem l_word (hh : rh_hs wh) (hm : rh_ms wm) {x1 p n i j cnt W H fr : Int} {v : Int → Int} (hp : 0 ≤ p ∧ p < 8) (hx1 : 0 ≤ x1 ∧ x1 ≤ 3) (hW : 0 ≤ W) (hWb : W ≤ 128) (hHb : H ≤ 96) (hH : 0 ≤ H) (hN : W * H ≤ 6144) (hi : 0 ≤ i ∧ i < 80) (hj : 0 ≤ j ∧ j < 80) (hfr : 0 ≤ fr ∧ fr + cnt ≤ 4096) (hv : ∀ r, 0 ≤ r → r < cnt → 33 ≤ v (fr + r) ∧ v (fr + r) ≤ 126) (A0 B0 : rhM) (c78 : B0 0 78 = cnt) (h243 : A0 243 i = j) (h239 : A0 239 j = fr) (h70 : B0 70 j = fr) (h2 : ∀ r, 0 ≤ r → r < cnt → A0 2 (fr + r) = v (fr + r)) (h1 : ∀ r, 0 ≤ r → r < cnt → B0 1 (fr + r) = v (fr + r)) : ∀ (m : Nat) (r t : Int) (A B : rhM), r + m = cnt → 0 ≤ r → 0 ≤ t → t ≤ B 0 89 → Prp A B (251 + 39 * p) i W H → Prr A B W H → Rfm A B → frx Flw A0 A → frx Glw B0 B →
    ∃ t' A' B', eS wh YX1_learnText 6 199 [(0, 2, 0), (1, 0, x1), (2, 0, p), (4, 0, n), (5, 0, t), (6, 0, i), (7, 0, r)] [] A 141 [(0, 2, 0), (1, 0, x1), (2, 0, p), (4, 0, n), (5, 0, t'), (6, 0, i + 1)] [] A' ∧ eS wm YX32_learnText 5 156 [(0, 2, 0), (1, 0, x1), (2, 0, p), (5, 0, n), (6, 0, t), (7, 0, i), (8, 0, j), (9, 0, r)] [] B 104 [(0, 2, 0), (1, 0, x1), (2, 0, p), (5, 0, n), (6, 0, t'), (7, 0, i + 1)] [] B' ∧ (0 ≤ t' ∧ t' ≤ B' 0 89) ∧ Rfm A' B' ∧ frx Flw A0 A' ∧ frx Glw B0 B' := by
  have hx := hs_pg hh hp.1 hp.2
  have hy : rh_bl wh 1 (251 + 39 * p + 9) 0 := by
    have := hs_ly hh hp.1 hp.2
    rwa [show 260 + 39 * p = 251 + 39 * p + 9 by omega] at this
  intro m
  induction m with
  | zero =>
    intro r t A B hr r0 t0 t1 PP PR F fA fB
    have e78 : B 0 78 = cnt := by rw [fB 0 78 (by unfold Glw; omega)]; exact c78
    have e8 : A 25 8 = cnt := by rw [PP.2.2.2.2.2.2.1]; exact e78
    refine ⟨t, A, B, eS.of (fun P HP => ?_), eS.of (fun P HP => ?_), ⟨t0, t1⟩, F, fA, fB⟩
    · refine rh1.of (rX1_learnText_199 hh _ _ _ _ _ _ _ ?_)
      rw [e8]
      exact ⟨fun z => by omega, fun _ => ⟨⟨by omega, by omega⟩, HP⟩⟩
    · refine rh1.of (rX32_learnText_156 hm _ _ _ _ _ _ _ _ ?_)
      rw [e78]
      exact ⟨fun z => by omega, fun _ => ⟨⟨by omega, by omega⟩, HP⟩⟩
  | succ m ih =>
    intro r t A B hr r0 t0 t1 PP PR F fA fB
    have e78 : B 0 78 = cnt := by rw [fB 0 78 (by unfold Glw; omega)]; exact c78
    have e8 : A 25 8 = cnt := by rw [PP.2.2.2.2.2.2.1]; exact e78
    have c64 := PP.2.2.2.2.2.2.2.1
    obtain ⟨y1, y2, y3, ⟨vv, w0, w1, w2⟩⟩ := PR.2 r r0 (by rw [e78]; omega)
    have PP0 := PP
    obtain ⟨a1, a2, ⟨l, tt, rr, b, b1, b2, b3, b4, b5, b6, b7, b8⟩, a4, a5, -⟩ := PP
    have PP := PP0
    obtain ⟨r1, M1, K1, f1, v1, X1⟩ := c_hasColumns hh (a := B 58 r) (b := B 59 r) (l0 := l) (r0 := rr) hx hy (by omega) A a1 hW hWb hHb hN hi b2 b5 b7 b8 y3.1 y3.2.2
    obtain ⟨r2, M2, K2, f2, v2, X2⟩ := c_findBox hm (a := B 58 r) (b := B 59 r) B a2.1 a2.2 hW hWb hHb hH hN y3.1 y3.2.2
    have I0 : Ikc (B 11) W H (B 58 r) (B 59 r) (B 58 r) vv := ⟨⟨(by omega), y3.2.1⟩, ⟨w0, w1⟩, w2⟩
    have Y1 := X1.resolve_left (fun z => z.1 _ _ I0)
    have Y2 := X2.resolve_left (fun z => z.1 _ _ I0)
    obtain ⟨q1, q2, q3, q4⟩ := Y1.one Y2
    have hb : (0 ≤ M2 0 84 ∧ M2 0 84 < M2 0 86 ∧ M2 0 86 ≤ W) ∧ (0 ≤ M2 0 85 ∧ M2 0 85 < M2 0 87 ∧ M2 0 87 ≤ H) ∧ M2 0 87 ≤ B 0 83 ∧ B 0 83 - B 0 82 ≤ M2 0 85 := by
      obtain ⟨g0, ⟨u1, v1', g1, e1⟩, ⟨u2, v2', g2, e2⟩, ⟨u3, v3', g3, e3⟩, ⟨u4, v4', g4, e4⟩⟩ := Y2
      have h1 := g0 _ _ g1
      have t1 := g1.1
      have t2 := g2.2.1
      have t3 := g3.1
      have t4 := (b8 u4 v4' (by have := g4.1; omega) (by have := g4.1; omega) g4.2.1.1 g4.2.1.2 g4.2.2).2
      have t5 := g4.2.1
      have t6 := (b8 u2 v2' (by have := g2.1; omega) (by have := g2.1; omega) g2.2.1.1 g2.2.1.2 g2.2.2).2
      omega
    rw [rh_if_t (show 0 < M1 25 13 by omega)] at v1
    have F1 : frx Flw A M1 := f1.w (fun c j h => by unfold Flw; omega)
    have G1 : frx Glw B M2 := f2.w (fun c j h => by unfold Glw; omega)
    have PP1 := PP.fw (by omega) F1 G1
    have PR1 := PR.fw F1 G1
    have FM : Rfm M1 M2 := F.fx (fun c c0 c1 => f1.cell (fun j => (by omega))) (f2 0 89 (by omega)) (fun c c0 c1 => f2.cell (fun j => (by omega)))
    have n89 : M2 0 89 = B 0 89 := f2 0 89 (by omega)
    have F89 := FM.2.1
    have m41 : M1 41 0 = M2 0 89 := FM.1
    have s243 : M1 243 i = j := by rw [F1 243 i (by unfold Flw; omega), fA 243 i (by unfold Flw; omega)]; exact h243
    have s239 : M1 239 j = fr := by rw [F1 239 j (by unfold Flw; omega), fA 239 j (by unfold Flw; omega)]; exact h239
    have s2 : M1 2 (fr + r) = v (fr + r) := by rw [F1 2 _ (by unfold Flw; omega), fA 2 _ (by unfold Flw; omega)]; exact h2 r r0 (by omega)
    have s70 : M2 70 j = fr := by rw [G1 70 j (by unfold Glw; omega), fB 70 j (by unfold Glw; omega)]; exact h70
    have s1 : M2 1 (fr + r) = v (fr + r) := by rw [G1 1 _ (by unfold Glw; omega), fB 1 _ (by unfold Glw; omega)]; exact h1 r r0 (by omega)
    have EH : ∀ {A' : rhM} {t' : Int}, eS wh YX1_learnText 6 238 [(0, 2, 0), (1, 0, x1), (2, 0, p), (4, 0, n), (5, 0, t), (6, 0, i), (7, 0, r)] [(0, r1)] M1 141 [(0, 2, 0), (1, 0, x1), (2, 0, p), (4, 0, n), (5, 0, t'), (6, 0, i + 1)] [] A' → eS wh YX1_learnText 6 199 [(0, 2, 0), (1, 0, x1), (2, 0, p), (4, 0, n), (5, 0, t), (6, 0, i), (7, 0, r)] [] A 141 [(0, 2, 0), (1, 0, x1), (2, 0, p), (4, 0, n), (5, 0, t'), (6, 0, i + 1)] [] A' := fun E => eS.of (fun P HP => by
      refine rh1.of (rX1_learnText_199 hh _ _ _ _ _ _ _ ?_)
      rw [e8, y1, y2]
      refine ⟨fun _ => ⟨⟨by omega, by omega⟩, ⟨by omega, by omega⟩, ?_⟩, fun z => by omega⟩
      exact rh1.s (vX1_learnText_235 hh K1 (LE0 rfl)) (rh1.s E HP))
    have EM : ∀ {B' : rhM} {t' : Int}, eS wm YX32_learnText 5 183 [(0, 2, 0), (1, 0, x1), (2, 0, p), (5, 0, n), (6, 0, t), (7, 0, i), (8, 0, j), (9, 0, r)] [(0, r2)] M2 104 [(0, 2, 0), (1, 0, x1), (2, 0, p), (5, 0, n), (6, 0, t'), (7, 0, i + 1)] [] B' → eS wm YX32_learnText 5 156 [(0, 2, 0), (1, 0, x1), (2, 0, p), (5, 0, n), (6, 0, t), (7, 0, i), (8, 0, j), (9, 0, r)] [] B 104 [(0, 2, 0), (1, 0, x1), (2, 0, p), (5, 0, n), (6, 0, t'), (7, 0, i + 1)] [] B' := fun E => eS.of (fun P HP => by
      refine rh1.of (rX32_learnText_156 hm _ _ _ _ _ _ _ _ ?_)
      rw [e78]
      refine ⟨fun _ => ⟨⟨by omega, by omega⟩, ⟨by omega, by omega⟩, ?_⟩, fun z => by omega⟩
      exact rh1.s (vX32_learnText_180 hm K2 (LE0 rfl)) (rh1.s E HP))
    by_cases q : (M2 0 86 - M2 0 84 ≤ 24 ∧ M2 0 87 - M2 0 85 ≤ 24) ∧ M2 0 89 < 150
    · obtain ⟨r5, M5, r6, M6, K5, K6, e5, f5, f6, n6, F6⟩ := c_keep7 hh hm (fc := x1) (lt := v (fr + r)) hx (by omega) PP1 ⟨q1, q2, q3, q4, hb.1, hb.2.1, by rw [f2 0 83 (by omega), f2 0 82 (by omega)]; exact hb.2.2⟩ FM hW hWb hHb hN hx1 (hv r r0 (by omega)) q.1.1 q.1.2 q.2
      have F2 : frx Flw M1 M5 := f5.w (fun c j h => by unfold Fle at h; unfold Flw; omega)
      have G2 : frx Glw M2 M6 := f6.w (fun c j h => by unfold Gke at h; unfold Glw; omega)
      obtain ⟨t', A', B', E1, E2, rs⟩ := ih (r + 1) (t + 1) M5 M6 (by omega) (by omega) (by omega) (by rw [n6]; omega) (PP1.fw (by omega) F2 G2) (PR1.fw F2 G2) F6 ((fA.tr F1).tr F2) ((fB.tr G1).tr G2)
      refine ⟨t', A', B', EH (eS.of (fun P HP => ?_)), EM (eS.of (fun P HP => ?_)), rs⟩
      · refine rh1.of (rX1_learnText_238 hh _ _ _ _ _ _ _ _ ?_)
        rw [v1, q1, q2, q3, q4, m41, s243, s239, s2]
        refine ⟨fun _ => ⟨by omega, by omega⟩, fun _ _ => ⟨by omega, by omega⟩, ?_⟩
        intro z hz
        rw [rh_if_t (show (1 : Int) ≠ 0 ∧ ((M2 0 86 - M2 0 84 ≤ 24 ∧ M2 0 87 - M2 0 85 ≤ 24) ∧ M2 0 89 < 150) from ⟨by decide, q⟩)] at hz
        refine ⟨fun _ => ⟨hi, hj, ⟨by omega, by omega⟩, ?_⟩, fun y => absurd (show z ≠ 0 by omega) y⟩
        refine rh1.s (vX1_learnText_308 hh K5 (LE0 rfl)) ?_
        refine rh1.of (rX1_learnText_311 hh _ _ _ _ _ _ _ _ ?_)
        exact ⟨⟨by omega, by omega⟩, ⟨by omega, by omega⟩, rh1.s E1 HP⟩
      · refine rh1.of (rX32_learnText_183 hm _ _ _ _ _ _ _ _ _ ?_)
        rw [s70, s1]
        refine ⟨fun _ => ⟨by omega, by omega⟩, fun _ _ => ⟨by omega, by omega⟩, fun _ => ⟨⟨by omega, by omega⟩, ⟨by omega, by omega⟩, ?_⟩, fun y => absurd (show M2 0 89 < 150 ∧ (M2 0 86 - M2 0 84 ≤ 24 ∧ M2 0 87 - M2 0 85 ≤ 24) from ⟨q.2, q.1⟩) y⟩
        refine rh1.s (vX32_learnText_239 hm K6 (LE0 rfl)) ?_
        refine rh1.of (rX32_learnText_242 hm _ _ _ _ _ _ _ _ ?_)
        exact ⟨⟨by omega, by omega⟩, ⟨by omega, by omega⟩, rh1.s E2 HP⟩
    · obtain ⟨t', A', B', E1, E2, rs⟩ := ih (r + 1) t M1 M2 (by omega) (by omega) t0 (by rw [n89]; exact t1) PP1 PR1 FM (fA.tr F1) (fB.tr G1)
      refine ⟨t', A', B', EH (eS.of (fun P HP => ?_)), EM (eS.of (fun P HP => ?_)), rs⟩
      · refine rh1.of (rX1_learnText_238 hh _ _ _ _ _ _ _ _ ?_)
        rw [v1, q1, q2, q3, q4, m41]
        refine ⟨fun _ => ⟨by omega, by omega⟩, fun _ _ => ⟨by omega, by omega⟩, ?_⟩
        intro z hz
        rw [rh_if_f (show ¬ ((1 : Int) ≠ 0 ∧ ((M2 0 86 - M2 0 84 ≤ 24 ∧ M2 0 87 - M2 0 85 ≤ 24) ∧ M2 0 89 < 150)) from fun y => q y.2)] at hz
        exact ⟨fun y => absurd hz y, fun _ => ⟨⟨by omega, by omega⟩, rh1.s E1 HP⟩⟩
      · refine rh1.of (rX32_learnText_183 hm _ _ _ _ _ _ _ _ _ ?_)
        exact ⟨fun _ => ⟨by omega, by omega⟩, fun _ _ => ⟨by omega, by omega⟩, fun y => absurd ⟨y.2, y.1⟩ q, fun _ => ⟨⟨by omega, by omega⟩, rh1.s E2 HP⟩⟩
end LearnT
