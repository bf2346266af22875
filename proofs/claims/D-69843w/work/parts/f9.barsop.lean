/-! ===== LAYER 2: bars: all runs, the operation ===== -/
section BarsOp2
variable {wh wm : rhW}
theorem t_draw (hh : rh_hs wh) (hm : rh_ms wm) {A B : rhM} {g : Int → Int} {p w h0 x2 y h x5 n : Int} (hp : 0 ≤ p ∧ p < 8) (hwA : A (251 + 39 * p) 1 = w) (hwB : B 4 p = w) (hwh : (0 ≤ w ∧ w ≤ 128) ∧ w * h0 ≤ 6144) (hy : 0 ≤ y ∧ 0 < h ∧ y + h ≤ h0 ∧ h0 ≤ 96) (h5 : 1 ≤ x5 ∧ x5 ≤ 4) (hn : 2 ≤ n ∧ n ≤ 14 ∧ n % 2 = 0) (hg : ∀ i, 0 ≤ i → i < n → 0 ≤ g i ∧ g i ≤ 9) (hA : ∀ i, 0 ≤ i → i < n → A 250 i = g i) (hx : 0 ≤ x2 ∧ x2 + x5 * (4 + 9 * n + 5) ≤ w) (hB1 : B 0 212 = 7 + 5 * n) (hB2 : ∀ r, 0 ≤ r → r < 7 + 5 * n → B 166 r = wdv g n r) : ∀ (u r : Nat) (Z : Int → Prop), (r : Int) + u = 7 + 5 * n → (∀ i, Z i → 0 ≤ i ∧ i < w * h0) → ∃ Z' : Int → Prop, eS wh YX1_bars 3 128 [(0, 2, 0), (3, 0, y), (4, 0, h), (5, 0, x5), (6, 0, n), (7, 2, 251 + 39 * p), (9, 0, x2 + x5 * us (wdv g n) r), (10, 0, (r : Int))] [] (zr A (251 + 39 * p + 1) Z) 128 [(0, 2, 0), (3, 0, y), (4, 0, h), (5, 0, x5), (6, 0, n), (7, 2, 251 + 39 * p), (9, 0, x2 + x5 * (4 + 9 * n + 5)), (10, 0, 7 + 5 * n)] [] (zr A (251 + 39 * p + 1) Z') ∧ eS wm YX32_bars 3 349 [(0, 2, 0), (1, 0, p), (3, 0, y), (4, 0, h), (5, 0, x5), (8, 0, x2 + x5 * us (wdv g n) r), (9, 0, (r : Int))] [] (zr B 3 (fun k => Z (k - 6144 * p))) 349 [(0, 2, 0), (1, 0, p), (3, 0, y), (4, 0, h), (5, 0, x5), (8, 0, x2 + x5 * (4 + 9 * n + 5)), (9, 0, 7 + 5 * n)] [] (zr B 3 (fun k => Z' (k - 6144 * p))) ∧ ∀ i, Z' i → 0 ≤ i ∧ i < w * h0 := by
  have hb := hs_pg hh hp.1 hp.2
  have ua := us_all hn hg
  intro u
  induction u with
  | zero =>
    intro r Z hr hZ
    have e : (7 + 5 * n).toNat = r := by omega
    rw [e] at ua
    rw [ua, show (r : Int) = 7 + 5 * n by omega]
    exact ⟨Z, eS.rf, eS.rf, hZ⟩
  | succ u ih =>
    intro r Z hr hZ
    obtain ⟨run, hrun⟩ : ∃ run, run = rh_if (wdv g n (r : Int) ≠ 0) (3 * x5) x5 := ⟨_, rfl⟩
    have rb : 1 ≤ run ∧ run ≤ 12 := by
      rw [hrun]
      by_cases q : wdv g n (r : Int) ≠ 0
      · rw [rh_if_t q]; omega
      · rw [rh_if_f q]; omega
    have e : x5 * us (wdv g n) r + run = x5 * us (wdv g n) (r + 1) := by
      show _ = x5 * (us (wdv g n) r + rh_if (wdv g n (r : Int) ≠ 0) 3 1)
      rw [Int.mul_add, hrun]
      by_cases q : wdv g n (r : Int) ≠ 0
      · rw [rh_if_t q, rh_if_t q, Int.mul_comm 3 x5]
      · rw [rh_if_f q, rh_if_f q, Int.mul_one]
    have m1 := us_m (W := wdv g n) (m := r + 1) (m' := (7 + 5 * n).toNat) (by omega)
    rw [ua] at m1
    have m2 := Int.mul_le_mul_of_nonneg_left (show us (wdv g n) (r + 1) ≤ 4 + 9 * n + 5 by omega) (show 0 ≤ x5 by omega)
    have m3 := us_b (W := wdv g n) r
    have m4 := Int.mul_nonneg (show 0 ≤ x5 by omega) (show 0 ≤ us (wdv g n) r by omega)
    obtain ⟨at0, hat⟩ : ∃ at0, at0 = x2 + x5 * us (wdv g n) r := ⟨_, rfl⟩
    have eat : x2 + x5 * us (wdv g n) (r + 1) = at0 + run := by omega
    have ab : 0 ≤ at0 ∧ at0 + run ≤ w := by omega
    have er : (r : Int) + 1 = ((r + 1 : Nat) : Int) := by omega
    rw [← hat]
    -- the house comes to the run
    have SH : ∀ P : Int → rhM → Prop, rh1 wh YX1_bars 3 238 [(0, 2, 0), (3, 0, y), (4, 0, h), (5, 0, x5), (6, 0, n), (7, 2, 251 + 39 * p), (9, 0, at0), (10, 0, (r : Int)), (14, 0, run), (15, 0, at0)] [] (zr A (251 + 39 * p + 1) Z) P → rh1 wh YX1_bars 3 128 [(0, 2, 0), (3, 0, y), (4, 0, h), (5, 0, x5), (6, 0, n), (7, 2, 251 + 39 * p), (9, 0, at0), (10, 0, (r : Int))] [] (zr A (251 + 39 * p + 1) Z) P := fun P HP => by
      refine rh1.of (rX1_bars_128 hh _ _ _ _ _ _ _ _ hb ?_)
      refine ⟨⟨by omega, by omega⟩, fun _ => ⟨⟨by omega, by omega⟩, fun _ => ⟨by omega, by omega⟩, ?_⟩, fun z => by omega⟩
      intro a1 ha1
      by_cases c : 0 ≤ (r : Int) - 4 ∧ (r : Int) - 4 < 5 * n
      · rw [rh_if_t c] at ha1
        have dd := hg (((r : Int) - 4) / 10 * 2 + ((r : Int) - 4) % 2) (by omega) (by omega)
        rw [zr_o (show (250 : Int) ≠ 251 + 39 * p + 1 by omega), hA _ (by omega) (by omega)]
        refine ⟨fun _ => ⟨⟨by omega, by omega⟩, ⟨by omega, by omega⟩, ⟨by omega, by omega⟩, ⟨by omega, by omega⟩, ⟨by omega, by omega⟩, ⟨by omega, by omega⟩, ?_⟩, fun z => absurd (show a1 ≠ 0 by omega) z⟩
        intro a2 ha2 a3 ha3
        have e3 : a3 = run := by
          rw [ha3, ha2, hrun]
          unfold wdv
          rw [rh_if_t c]
        rw [e3]
        exact ⟨⟨by omega, by omega⟩, HP⟩
      · rw [rh_if_f c] at ha1
        refine ⟨fun z => absurd ha1 z, fun _ => ⟨⟨by omega, by omega⟩, ?_⟩⟩
        intro a2 ha2 a3 ha3
        have e3 : a3 = run := by
          rw [ha3, ha2, hrun]
          unfold wdv
          rw [rh_if_f c]
        rw [e3]
        exact ⟨⟨by omega, by omega⟩, HP⟩
    have SM : ∀ P : Int → rhM → Prop, rh1 wm YX32_bars 3 382 [(0, 2, 0), (1, 0, p), (3, 0, y), (4, 0, h), (5, 0, x5), (8, 0, at0), (9, 0, (r : Int)), (10, 0, run), (11, 0, 0)] [] (zr B 3 (fun k => Z (k - 6144 * p))) P → rh1 wm YX32_bars 3 349 [(0, 2, 0), (1, 0, p), (3, 0, y), (4, 0, h), (5, 0, x5), (8, 0, at0), (9, 0, (r : Int))] [] (zr B 3 (fun k => Z (k - 6144 * p))) P := fun P HP => by
      refine rh1.of (rX32_bars_349 hm _ _ _ _ _ _ _ ?_)
      rw [zr_o (show (0 : Int) ≠ 3 by decide), hB1, zr_o (show (166 : Int) ≠ 3 by decide), hB2 _ (by omega) (by omega), ← hrun]
      refine ⟨fun _ => ⟨⟨by omega, by omega⟩, ?_⟩, fun z => by omega⟩
      (intro zq hzq; replace hzq := hzq.symm; subst hzq)
      exact ⟨⟨by omega, by omega⟩, HP⟩
    by_cases ev : (r : Int) % 2 = 0
    · obtain ⟨Z1, hZ1⟩ : ∃ Z1 : Int → Prop, Z1 = fun i => Z i ∨ Rct w at0 (at0 + run) y (y + h) i := ⟨_, rfl⟩
      have rng : ∀ s t, at0 ≤ s → s < at0 + run → y ≤ t → t < y + h → 0 ≤ w * t + s ∧ w * t + s < w * h0 := fun s t s0 s1 t0 t1 => by
        have l := mul_lt (a := w) (b := h0) (x := s) (y := t) (by omega) (by omega) (by omega) (by omega)
        have n := Int.mul_nonneg hwh.1.1 (show 0 ≤ t by omega)
        omega
      obtain ⟨Z', E1, E2, R'⟩ := ih (r + 1) Z1 (by omega) (fun i z => by
        rw [hZ1] at z
        rcases z with z | ⟨s, t, s1, t1, e1⟩
        · exact hZ i z
        · rw [e1]; exact rng s t s1.1 s1.2 t1.1 t1.2)
      rw [eat, ← er] at E1 E2
      have H := h_rect hh (A := A) (x5 := x5) (n := n) (r := (r : Int)) (run := run) (at0 := at0) (h := h) (Z := Z) hb hwA (fun s t s0 s1 t0 t1 => by have := rng s t s0 s1 t0 t1; omega) ⟨by omega, by omega, by omega⟩ ⟨by omega, by omega⟩ ev (by omega) run.toNat at0 (by omega) (Int.le_refl _)
      rw [zr_e (Z := fun i => Z i ∨ Rct w at0 at0 y (y + h) i) (Z' := Z) (fun i => ⟨fun z => z.elim id (fun ⟨s, t, z1, _, _⟩ => absurd z1 (by omega)), fun z => .inl z⟩), ← hZ1] at H
      have M := m_rect hm (B := B) (p := p) (w := w) (y := y) (h := h) (h0 := h0) (x5 := x5) (at0 := at0) (r := (r : Int)) (run := run) (Z := fun k => Z (k - 6144 * p)) hp hwB ⟨hwh.1.1, hwh.2⟩ hy ⟨by omega, by omega, by omega⟩ rb ev (by omega) (run * h).toNat 0 (by have := Int.mul_nonneg (show 0 ≤ run by omega) (show 0 ≤ h by omega); omega) (by decide)
      rw [zr_e (Z := fun k => Z (k - 6144 * p) ∨ Rwj p w y at0 run 0 k) (Z' := fun k => Z (k - 6144 * p)) (fun i => ⟨fun z => z.elim id (fun ⟨t, z1, _⟩ => absurd z1 (by omega)), fun z => .inl z⟩), zr_e (Z := fun k => Z (k - 6144 * p) ∨ Rwj p w y at0 run (run * h) k) (Z' := fun k => Z1 (k - 6144 * p)) (fun k => by rw [hZ1, Rwj_e (by omega) hy.2.1])] at M
      refine ⟨Z', (eS.of (fun P HP => SH P (rh1.s H ?_))).tr E1, (eS.of (fun P HP => SM P (rh1.s M ?_))).tr E2, R'⟩
      · refine rh1.of (rX1_bars_238 hh _ _ _ _ _ _ _ _ _ _ hb ?_)
        exact ⟨⟨by omega, by omega⟩, fun z => by omega, fun z => by omega, fun _ => ⟨⟨by omega, by omega⟩, ⟨by omega, by omega⟩, HP⟩⟩
      · refine rh1.of (rX32_bars_382 hm _ _ _ _ _ _ _ _ _ ?_)
        have rh' : 0 ≤ run * h ∧ run * h ≤ 12 * 96 := ⟨Int.mul_nonneg (by omega) (by omega), Int.mul_le_mul rb.2 (by omega) (by omega) (by decide)⟩
        exact ⟨⟨by omega, by omega⟩, fun z => by omega, fun z => by omega, fun _ => ⟨⟨by omega, by omega⟩, ⟨by omega, by omega⟩, HP⟩⟩
    · obtain ⟨Z', E1, E2, R'⟩ := ih (r + 1) Z (by omega) hZ
      rw [eat, ← er] at E1 E2
      refine ⟨Z', (eS.of (fun P HP => SH P ?_)).tr E1, (eS.of (fun P HP => SM P ?_)).tr E2, R'⟩
      · refine rh1.of (rX1_bars_238 hh _ _ _ _ _ _ _ _ _ _ hb ?_)
        exact ⟨⟨by omega, by omega⟩, fun _ => ⟨by omega, by omega⟩, fun z => absurd z.2 ev, fun _ => ⟨⟨by omega, by omega⟩, ⟨by omega, by omega⟩, HP⟩⟩
      · refine rh1.of (rX32_bars_382 hm _ _ _ _ _ _ _ _ _ ?_)
        have rh' : 0 ≤ run * h ∧ run * h ≤ 12 * 96 := ⟨Int.mul_nonneg (by omega) (by omega), Int.mul_le_mul rb.2 (by omega) (by omega) (by decide)⟩
        exact ⟨⟨by omega, by omega⟩, fun _ => ⟨by omega, by omega⟩, fun z => absurd z.2 ev, fun _ => ⟨⟨by omega, by omega⟩, ⟨by omega, by omega⟩, HP⟩⟩
def Fbr (c j : Int) : Prop := Fdg c j ∨ (c = 1 ∧ j = 2)
def Gbr (c j : Int) : Prop := c = 166 ∨ c = 167 ∨ (c = 0 ∧ (j = 0 ∨ j = 2 ∨ j = 212))
def Pbar (Mh Mm M' M2' : rhM) : Prop := (frx Fbr Mh M' ∧ frx Gbr Mm M2') ∨ ∃ q, (0 ≤ q ∧ q < 8) ∧ Rpg M' M2' ∧ (M' (251 + 39 * q + 9) 0 = 0 ∧ M' (251 + 39 * q) 16 = 0 ∧ M' (251 + 39 * q) 4 = 0 ∧ M2' 23 q = 0 ∧ M2' 157 q = 0) ∧ frx (fun a j => Fbr a j ∨ Flay q a j) Mh M' ∧ frx (fun a j => Gbr a j ∨ Glay q a j) Mm M2'
/-- both pages with the same places at nought -/
theorem Rpg.zro {A B : rhM} (R : Rpg A B) {p : Int} {Z : Int → Prop} (hp : 0 ≤ p ∧ p < 8) (hZ : ∀ i, Z i → 0 ≤ i ∧ i < B 4 p * B 5 p) {A' B' : rhM} (hA : A' = rh_set (rh_set (rh_set (zr A (251 + 39 * p + 1) Z) (251 + 39 * p) 4 0) (251 + 39 * p + 9) 0 0) (251 + 39 * p) 16 0) (hB : B' = rh_set (rh_set (rh_set (zr B 3 (fun k => Z (k - 6144 * p))) 23 p 0) 157 p 0) 0 2 0) : Rpg A' B' := by
  have fA : ∀ a j, ¬ (a = 251 + 39 * p ∧ (j = 4 ∨ j = 16)) → ¬ (a = 251 + 39 * p + 9 ∧ j = 0) → A' a j = zr A (251 + 39 * p + 1) Z a j := fun a j n1 n2 => by
    rw [hA]
    have F2 : frx (fun a j => (a = 251 + 39 * p ∧ (j = 4 ∨ j = 16)) ∨ (a = 251 + 39 * p + 9 ∧ j = 0)) (zr A (251 + 39 * p + 1) Z) (rh_set (rh_set (rh_set (zr A (251 + 39 * p + 1) Z) (251 + 39 * p) 4 0) (251 + 39 * p + 9) 0 0) (251 + 39 * p) 16 0) := ((frx.rf.st (.inl ⟨rfl, .inl rfl⟩)).st (.inr ⟨rfl, rfl⟩)).st (.inl ⟨rfl, .inr rfl⟩)
    exact F2 a j (fun y => y.elim n1 n2)
  have fB : ∀ a j, a = 3 ∨ a = 4 ∨ a = 5 → B' a j = zr B 3 (fun k => Z (k - 6144 * p)) a j := fun a j h => by
    rw [hB, rh_set_a (by omega), rh_set_a (by omega), rh_set_a (by omega)]
  have b4 : ∀ j, B' 4 j = B 4 j := fun j => by rw [fB 4 j (by omega), zr_o (by decide)]
  have b5 : ∀ j, B' 5 j = B 5 j := fun j => by rw [fB 5 j (by omega), zr_o (by decide)]
  intro s s0 s1
  obtain ⟨⟨q1, q2, q3, q4, q5, q6, q7, q8, q9, q10⟩, qq⟩ := R s s0 s1
  have a1 : A' (251 + 39 * s) 1 = A (251 + 39 * s) 1 := by rw [fA _ _ (by omega) (by omega), zr_o (by omega)]
  have a2 : A' (251 + 39 * s) 2 = A (251 + 39 * s) 2 := by rw [fA _ _ (by omega) (by omega), zr_o (by omega)]
  have a3 : A' (251 + 39 * s) 3 = A (251 + 39 * s) 3 := by rw [fA _ _ (by omega) (by omega), zr_o (by omega)]
  unfold Rp
  rw [a1, a2, a3, b4, b5]
  refine ⟨⟨q1, q2, q3, q4, q5, q6, q7, q8, q9, fun k k0 k1 => ?_⟩, qq⟩
  have v := q10 k k0 k1
  rw [fA _ _ (by omega) (by omega), fB 3 _ (.inl rfl)]
  by_cases e : s = p
  · rw [e] at v ⊢
    by_cases z : Z k
    · rw [zr_t z, zr_t (Z := fun k => Z (k - 6144 * p)) (i := 6144 * p + k) (by show Z (6144 * p + k - 6144 * p); rw [show 6144 * p + k - 6144 * p = k by omega]; exact z)]
      exact ⟨by decide +kernel, by decide, by decide⟩
    · rw [zr_f z, zr_f (Z := fun k => Z (k - 6144 * p)) (i := 6144 * p + k) (fun y => z (by
        have y' : Z (6144 * p + k - 6144 * p) := y
        rwa [show 6144 * p + k - 6144 * p = k by omega] at y'))]
      exact v
  · have pq := (R p hp.1 hp.2).1
    obtain ⟨-, -, -, -, -, -, -, p8, -⟩ := pq
    rw [zr_o (by omega), zr_f (Z := fun k => Z (k - 6144 * p)) (i := 6144 * s + k) (fun y => by
      have y' := hZ _ y
      omega)]
    exact v
theorem op_bars (hh : rh_hs wh) (hm : rh_ms wm) {Mh Mm : rhM} (T : Rtp Mh Mm) (R : Rpg Mh Mm) (x1 x2 x3 x4 x5 : Int) (hr : rI x2 ∧ rI x3 ∧ rI x4) : rC2 wh YX1_bars 3 [(2, 0), (0, x1), (0, x2), (0, x3), (0, x4), (0, x5)] Mh wm YX32_bars 3 [(2, 0), (0, x1), (0, x2), (0, x3), (0, x4), (0, x5)] Mm (fun r M' r2 M2' => r = r2 ∧ Rtp M' M2' ∧ Pbar Mh Mm M' M2') := by
  obtain ⟨M0, hM0⟩ : ∃ M0, M0 = rh_set Mm 0 0 0 := ⟨_, rfl⟩
  have g0 : frx Gbr Mm M0 := by rw [hM0]; exact frx.rf.st (by unfold Gbr; omega)
  have T0 : Rtp Mh M0 := by rw [hM0]; exact T.n0
  have R0 : Rpg Mh M0 := R.fx (F := fun _ _ => False) (G := fun c j => c = 0 ∧ j = 0) frx.rf (by rw [hM0]; exact frx.rf.st ⟨rfl, rfl⟩) (fun p a j _ _ hf => hf.elim) (fun a j hf => by omega)
  have i1 := R0.is x1
  by_cases c : ((0 ≤ x1) ∧ (x1 ≤ 7)) ∧ (0 < M0 4 x1)
  case neg =>
    refine ⟨-101, Mh, -101, M0, eC.of1 (rC1.of (by decide) (LE0 rfl) ?_), eC.of1 (rC1.of (by decide) (LE0 rfl) ?_), rfl, T0, .inl ⟨frx.rf, g0⟩⟩
    · refine rh1.of (rX1_bars_0 hh _ _ _ _ _ _ ?_)
      exact ⟨fun _ => ⟨by omega, by omega⟩, fun _ => ⟨rfl, rfl⟩, fun z => absurd (fun s => c (i1.mp s)) z⟩
    · refine rh1.of (rX32_bars_0 hm _ _ _ _ _ _ ?_)
      rw [← hM0]
      exact ⟨fun _ => ⟨by omega, by omega⟩, fun _ => ⟨rfl, rfl⟩, fun z => absurd c z⟩
  have hp : 0 ≤ x1 ∧ x1 < 8 := by omega
  by_cases d : (x4 < 1) ∨ (¬ ((1 ≤ x5) ∧ (x5 ≤ 4)))
  · refine ⟨-102, Mh, -102, M0, eC.of1 (rC1.of (by decide) (LE0 rfl) ?_), eC.of1 (rC1.of (by decide) (LE0 rfl) ?_), rfl, T0, .inl ⟨frx.rf, g0⟩⟩
    · refine rh1.of (rX1_bars_0 hh _ _ _ _ _ _ ?_)
      exact ⟨fun _ => ⟨by omega, by omega⟩, fun z => absurd (i1.mpr c) z, fun _ => ⟨fun _ => ⟨rfl, rfl⟩, fun z => absurd d z⟩⟩
    · refine rh1.of (rX32_bars_0 hm _ _ _ _ _ _ ?_)
      rw [← hM0]
      exact ⟨fun _ => ⟨by omega, by omega⟩, fun z => absurd c z, fun _ => ⟨fun _ => ⟨rfl, rfl⟩, fun z => absurd d z⟩⟩
  have h4 : 1 ≤ x4 := by omega
  have h5 : 1 ≤ x5 ∧ x5 ≤ 4 := by omega
  have SH : ∀ P : Int → rhM → Prop, rh1 wh YX1_bars 3 34 [(0, 2, 0), (1, 0, x1), (2, 0, x2), (3, 0, x3), (4, 0, x4), (5, 0, x5)] [(2, 0)] Mh P → rh1 wh YX1_bars 3 0 [(0, 2, 0), (1, 0, x1), (2, 0, x2), (3, 0, x3), (4, 0, x4), (5, 0, x5)] [] Mh P := fun P HP => by
    refine rh1.of (rX1_bars_0 hh _ _ _ _ _ _ ?_)
    exact ⟨fun _ => ⟨by omega, by omega⟩, fun z => absurd (i1.mpr c) z, fun _ => ⟨fun z => absurd z d, fun _ => HP⟩⟩
  have SM : ∀ P : Int → rhM → Prop, rh1 wm YX32_bars 3 41 [(0, 2, 0), (1, 0, x1), (2, 0, x2), (3, 0, x3), (4, 0, x4), (5, 0, x5), (6, 0, 0)] [] M0 P → rh1 wm YX32_bars 3 0 [(0, 2, 0), (1, 0, x1), (2, 0, x2), (3, 0, x3), (4, 0, x4), (5, 0, x5)] [] Mm P := fun P HP => by
    refine rh1.of (rX32_bars_0 hm _ _ _ _ _ _ ?_)
    rw [← hM0]
    exact ⟨fun _ => ⟨by omega, by omega⟩, fun z => absurd c z, fun _ => ⟨fun z => absurd z d, fun _ => HP⟩⟩
  obtain ⟨o, A1, B1, KD, H, f1, g1⟩ := t_dig hh hm T0 x1 x2 x3 x4 x5
  have gB1 : frx Gbr Mm B1 := g0.tr (g1.w (fun c j h => by unfold Gdg at h; unfold Gbr; omega))
  have fA2 : frx Fbr Mh (rh_set A1 1 2 0) := (f1.w (fun c j h => .inl h)).st (.inr ⟨rfl, rfl⟩)
  rcases H with ⟨ho, q, q1, q2, q3, HM⟩ | ⟨n, ho, hn, D, b212, HM⟩
  · rw [ho] at KD
    refine ⟨-1000 - q, rh_set A1 1 2 0, -1000 - q, B1, eC.of1 (rC1.of (by decide) (LE0 rfl) (SH _ ?_)), eC.of1 (rC1.of (by decide) (LE0 rfl) (SM _ (HM _ ⟨rfl, rfl⟩))), rfl, Rtp.use (Mh := Mh) (Mm := Mm) (rh_set_s _ _ _ _) q3, .inl ⟨fA2, gB1⟩⟩
    refine rh1.s ((vcX1_bars_34 hh KD (LE0 rfl)).toS) ?_
    refine rh1.s ((eG.less (L' := [(0, 2, 0)]) (fun z hz => by rw [List.mem_singleton] at hz; rw [hz]; exact List.mem_cons_self)).toS) ?_
    refine rh1.of (rX1_bars_50 hh _ ?_)
    rw [q2]
    exact ⟨⟨by omega, by omega⟩, rfl, rfl⟩
  rw [ho] at KD
  have hg : ∀ i, 0 ≤ i → i < n → 0 ≤ B1 167 i ∧ B1 167 i ≤ 9 := fun i i0 i1 => (D i i0 i1).2
  obtain ⟨B2, E2, W⟩ := m_runs hm hn hg b212 x1 x2 x3 x4 x5
  have E3 := m_width hm hn hg h5 W x1 x2 x3 x4
  obtain ⟨w1, w2, w3⟩ := id W
  have gB2 : frx Gbr Mm B2 := gB1.tr (w3.w (fun c j h => by unfold Gbr; omega))
  obtain ⟨A2, hA2⟩ : ∃ A2, A2 = rh_set A1 1 2 0 := ⟨_, rfl⟩
  rw [← hA2] at fA2
  have a12 : A2 1 2 = 0 := by rw [hA2, rh_set_s]
  have RR : Rpg A2 B2 := R.fx fA2 gB2 (fun p a j p0 p1 h => by unfold Fbr Fdg at h; omega) (fun a j h => by unfold Gbr at h; omega)
  obtain ⟨q1, q2, q3, q4, q5, q6, q7, q8, -⟩ := id (RR x1 hp.1 hp.2).1
  have wd : rI (x5 * (4 + 9 * n + 5)) := by
    have a := Int.mul_nonneg (show 0 ≤ x5 by omega) (show 0 ≤ 4 + 9 * n + 5 by omega)
    have b := Int.mul_le_mul h5.2 (show 4 + 9 * n + 5 ≤ 200 by omega) (by omega) (by decide : (0 : Int) ≤ 4)
    exact ⟨by omega, by omega⟩
  have KH := c_boxH hh (x := x2) (y := x3) (u := x5 * (4 + 9 * n + 5)) (v := x4) (hs_pgs hh hp.1 hp.2) A2 (by rw [q1]; omega) (by rw [q2]; omega)
  have KM := c_boxM hm (p := x1) (x := x2) (y := x3) (u := x5 * (4 + 9 * n + 5)) (v := x4) hp B2 ⟨hr.1, hr.2.1, wd, hr.2.2⟩
  rw [q1, q2] at KH
  have hb := hs_pg hh hp.1 hp.2
  have SH2 : ∀ P : Int → rhM → Prop, rh1 wh YX1_bars 3 116 [(0, 2, 0), (2, 0, x2), (3, 0, x3), (4, 0, x4), (5, 0, x5), (6, 0, n), (7, 2, 251 + 39 * x1)] [(0, rh_if (inBox (B2 4 x1) (B2 5 x1) x2 x3 (x5 * (4 + 9 * n + 5)) x4) 1 0)] A2 P → rh1 wh YX1_bars 3 0 [(0, 2, 0), (1, 0, x1), (2, 0, x2), (3, 0, x3), (4, 0, x4), (5, 0, x5)] [] Mh P := fun P HP => SH P (by
    refine rh1.s (vX1_bars_34 hh KD (LE0 rfl)) ?_
    refine rh1.of (rX1_bars_37 hh _ _ _ _ _ _ _ ?_)
    rw [← hA2]
    refine ⟨⟨by omega, by omega⟩, ?_⟩
    (intro zq hzq; replace hzq := hzq.symm; subst hzq)
    exact ⟨wd, rh1.s (vX1_bars_113 hb KH (LE0 rfl)) HP⟩)
  have SM2 : ∀ P : Int → rhM → Prop, rh1 wm YX32_bars 3 333 [(0, 2, 0), (1, 0, x1), (2, 0, x2), (3, 0, x3), (4, 0, x4), (5, 0, x5)] [(0, rh_if (inBox (B2 4 x1) (B2 5 x1) x2 x3 (x5 * (4 + 9 * n + 5)) x4) 1 0)] B2 P → rh1 wm YX32_bars 3 0 [(0, 2, 0), (1, 0, x1), (2, 0, x2), (3, 0, x3), (4, 0, x4), (5, 0, x5)] [] Mm P := fun P HP => SM P (HM P (rh1.s E2 (rh1.s E3 (by
    refine rh1.of (rX32_bars_283 hm _ _ _ _ _ _ _ _ ?_)
    rw [w1]
    exact ⟨fun z => by omega, fun _ => rh1.s (vX32_bars_330 hm KM (LE0 rfl)) HP⟩))))
  by_cases bx : inBox (B2 4 x1) (B2 5 x1) x2 x3 (x5 * (4 + 9 * n + 5)) x4
  case neg =>
    rw [rh_if_f bx] at SH2 SM2
    refine ⟨-104, A2, -104, rh_set B2 0 2 0, eC.of1 (rC1.of (by decide) (LE0 rfl) (SH2 _ ?_)), eC.of1 (rC1.of (by decide) (LE0 rfl) (SM2 _ ?_)), rfl, Rtp.use (Mh := Mh) (Mm := Mm) a12 (rh_set_s _ _ _ _), .inl ⟨fA2, gB2.st (by unfold Gbr; omega)⟩⟩
    · refine rh1.of (rX1_bars_116 hh _ _ _ _ _ _ _ _ hb ?_)
      exact ⟨fun _ => ⟨rfl, rfl⟩, fun z => absurd rfl z⟩
    · refine rh1.of (rX32_bars_333 hm _ _ _ _ _ _ _ ?_)
      exact ⟨fun _ => ⟨rfl, rfl⟩, fun z => absurd rfl z⟩
  rw [rh_if_t bx] at SH2 SM2
  obtain ⟨y1, y2, y3, y4, y5, y6⟩ := bx
  obtain ⟨Z, E4, E5, hZ⟩ := t_draw hh hm (A := A2) (B := B2) (g := B1 167) (p := x1) (w := B2 4 x1) (h0 := B2 5 x1) (x2 := x2) (y := x3) (h := x4) (x5 := x5) (n := n) hp q1 rfl ⟨⟨q3, q4⟩, q8⟩ ⟨y2, by omega, y6, q6⟩ h5 hn hg (fun i i0 i1 => by rw [hA2, rh_set_a (by decide)]; exact (D i i0 i1).1) ⟨y1, y5⟩ w1 w2 (7 + 5 * n).toNat 0 (fun _ => False) (by omega) (fun i z => z.elim)
  rw [zr_n] at E4 E5
  have u0 : x2 + x5 * us (wdv (B1 167) n) 0 = x2 := by show x2 + x5 * 0 = x2; rw [Int.mul_zero, Int.add_zero]
  rw [u0] at E4 E5
  refine ⟨x2 + x5 * (4 + 9 * n + 5), rh_set (rh_set (rh_set (zr A2 (251 + 39 * x1 + 1) Z) (251 + 39 * x1) 4 0) (251 + 39 * x1 + 9) 0 0) (251 + 39 * x1) 16 0, x2 + x5 * (4 + 9 * n + 5), rh_set (rh_set (rh_set (zr B2 3 (fun k => Z (k - 6144 * x1))) 23 x1 0) 157 x1 0) 0 2 0, eC.of1 (rC1.of (by decide) (LE0 rfl) (SH2 _ ?_)), eC.of1 (rC1.of (by decide) (LE0 rfl) (SM2 _ ?_)), rfl, Rtp.use (Mh := Mh) (Mm := Mm) ?_ (rh_set_s _ _ _ _), .inr ⟨x1, hp, RR.zro hp hZ rfl rfl, ⟨?_, ?_, ?_, ?_, ?_⟩, ?_, ?_⟩⟩
  · refine rh1.of (rX1_bars_116 hh _ _ _ _ _ _ _ _ hb ?_)
    refine ⟨fun z => absurd z (by decide), fun _ => rh1.s E4 ?_⟩
    refine rh1.of (rX1_bars_128 hh _ _ _ _ _ _ _ _ hb ?_)
    exact ⟨⟨by omega, by omega⟩, fun z => by omega, fun _ => ⟨by decide, by decide, rfl, rfl⟩⟩
  · refine rh1.of (rX32_bars_333 hm _ _ _ _ _ _ _ ?_)
    refine ⟨fun z => absurd z (by decide), fun _ => rh1.s E5 ?_⟩
    refine rh1.of (rX32_bars_349 hm _ _ _ _ _ _ _ ?_)
    rw [zr_o (show (0 : Int) ≠ 3 by decide), w1]
    refine ⟨fun z => by omega, fun _ => ⟨hp, hp, ?_⟩⟩
    (intro zq hzq; replace hzq := hzq.symm; subst hzq)
    exact ⟨rfl, rfl⟩
  · rw [rh_set_a (by omega), rh_set_a (by omega), rh_set_a (by omega), zr_o (by omega)]; exact a12
  · rw [rh_set_a (by omega), rh_set_s]
  · rw [rh_set_s]
  · rw [rh_set_j (by decide), rh_set_a (by omega), rh_set_s]
  · rw [rh_set_a (by decide), rh_set_a (by decide), rh_set_s]
  · rw [rh_set_a (by decide), rh_set_s]
  · exact ((((fA2.w (fun c j h => .inl h)).tr (zr_x.w (fun c j h => .inr (by unfold Flay; omega)))).st (.inr (by unfold Flay; omega))).st (.inr (by unfold Flay; omega))).st (.inr (by unfold Flay; omega))
  · exact ((((gB2.w (fun c j h => .inl h)).tr (zr_x.w (fun c j h => .inr (by
      have := hZ _ h.2
      unfold Glay
      omega)))).st (.inr (by unfold Glay; omega))).st (.inr (by unfold Glay; omega))).st (.inl (by unfold Gbr; omega))
end BarsOp2
