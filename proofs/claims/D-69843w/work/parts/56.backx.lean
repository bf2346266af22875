/-! ===== LAYER 2: back, its second stage and the operation ===== -/
section BackX
variable {wh wm : rhW}
theorem op_back (hh : rh_hs wh) (hm : rh_ms wm) {Mh Mm : rhM} (R : Rpg Mh Mm) (x1 x2 x3 : Int) : rC2 wh YX1_back 3 [(2, 0), (0, x1), (0, x2), (0, x3)] Mh wm YX32_back 3 [(2, 0), (0, x1), (0, x2), (0, x3)] Mm (fun r M' r2 M2' => r = r2 ∧ Pres Mh Mm M' M2') := by
  refine rC2.of (by decide) (LE0 rfl) (by decide) (LE0 rfl) ?_
  have e4 : ∀ j, rh_set Mm 0 0 0 4 j = Mm 4 j := fun j => rh_set_a (by decide)
  have e5 : ∀ j, rh_set Mm 0 0 0 5 j = Mm 5 j := fun j => rh_set_a (by decide)
  have e3 : rh_set Mm 0 0 0 3 = Mm 3 := rh_set_n (by decide)
  have f0 : frx Gw Mm (rh_set Mm 0 0 0) := frx.rf.st (by unfold Gw; omega)
  have hpg : ∀ z : Int, ((0 ≤ z ∧ z ≤ 7) ∧ Mh (251 + 39 * z) 3 ≠ 0) ↔ ((0 ≤ z ∧ z ≤ 7) ∧ 0 < Mm 4 z) := fun z => and_congr_right (fun h => (R z (by omega) (by omega)).2)
  have hc : ((¬ ((0 ≤ x1 ∧ x1 ≤ 7) ∧ Mh (251 + 39 * x1) 3 ≠ 0)) ∨ ((¬ ((0 ≤ x2 ∧ x2 ≤ 7) ∧ Mh (251 + 39 * x2) 3 ≠ 0)) ∨ (¬ (0 ≤ x3 ∧ x3 ≤ 7)))) ↔ ((¬ ((0 ≤ x1 ∧ x1 ≤ 7) ∧ 0 < rh_set Mm 0 0 0 4 x1)) ∨ ((¬ ((0 ≤ x2 ∧ x2 ≤ 7) ∧ 0 < rh_set Mm 0 0 0 4 x2)) ∨ (¬ (0 ≤ x3 ∧ x3 ≤ 7)))) := by
    rw [e4, e4, hpg, hpg]
  replace hpg := Hid.mk hpg
  refine rh2.l (rX1_back_0 hh _ _ _ _ ?_)
  refine ⟨(by omega), fun _ => (by omega), fun c => ?_, fun c => ?_⟩
  · refine rh1.of (rX32_back_0 hm _ _ _ _ ?_)
    exact ⟨(by omega), fun _ => (by omega), fun _ => ⟨rfl, .inl ⟨frx.rf, f0⟩⟩, fun d => absurd (hc.mp c) d⟩
  have hp : 0 ≤ x1 ∧ x1 < 8 := ⟨by omega, by omega⟩
  have hq : 0 ≤ x2 ∧ x2 < 8 := ⟨by omega, by omega⟩
  have ht : 0 ≤ x3 ∧ x3 < 8 := ⟨by omega, by omega⟩
  obtain ⟨R1, b1⟩ := R x1 hp.1 hp.2
  obtain ⟨R2, b2⟩ := R x2 hq.1 hq.2
  have hx1 : 0 < Mm 4 x1 := (by omega)
  obtain ⟨a1, a2, a3, a4, a5, a6, a7, a8, a9, a10⟩ := R1
  obtain ⟨c1, c2, c3, c4, c5, c6, c7, c8, c9, c10⟩ := R2
  refine ⟨hp, hq, fun d => ?_, fun d => ?_⟩
  · refine rh1.of (rX32_back_0 hm _ _ _ _ ?_)
    refine ⟨(by omega), fun _ => (by omega), fun e => absurd (hc.mpr e) c, fun _ => ⟨hp, hq, fun _ => hp, fun _ => hq, fun _ => ⟨rfl, .inl ⟨frx.rf, f0⟩⟩, fun e => ?_⟩⟩
    rw [e4, e4, e5, e5] at e
    rw [a1, a2, c1, c2] at d
    omega
  rw [a1, a2, c1, c2] at d
  have dW : Mm 4 x1 = Mm 4 x2 := (by omega)
  have dH : Mm 5 x1 = Mm 5 x2 := (by omega)
  refine rh2.r (rX32_back_0 hm _ _ _ _ ?_)
  rw [e4, e4, e5, e5]
  refine ⟨(by omega), fun _ => (by omega), fun e => ?_, fun _ => ⟨hp, hq, fun _ => hp, fun _ => hq, fun e => ?_, fun _ => ⟨hp, fun W hWW => ⟨hp, fun H hHH => ?_⟩⟩⟩⟩
  · refine absurd (hc.mpr ?_) c
    rw [e4, e4]; exact e
  · omega
  clear hc c d b1 b2
  rw [← dW, ← dH] at c7 c8 c9 c10
  rw [← dW] at c1 c3 c4
  rw [← dH] at c2 c5 c6
  rw [← hWW, ← hHH] at a7 a8 a10 c10 c7 c8
  rw [← hWW] at hx1 a1 a3 a4 c1
  rw [← hHH] at a2 a5 a6 c2
  have a9' : 0 < W → 0 < H := by rw [hWW, hHH]; exact a9
  replace a9' := Hid.mk a9'
  clear a9 c9
  have hf1 : ∀ k, 0 ≤ k → k < W * H → 0 ≤ rh_and (Mh (251 + 39 * x1 + 1) k) 255 ∧ rh_and (Mh (251 + 39 * x1 + 1) k) 255 ≤ 255 := fun k k0 k1 => by rw [(a10 k k0 k1).1]; exact (a10 k k0 k1).2
  have hf2 : ∀ k, 0 ≤ k → k < W * H → 0 ≤ rh_and (Mh (251 + 39 * x2 + 1) k) 255 ∧ rh_and (Mh (251 + 39 * x2 + 1) k) 255 ≤ 255 := fun k k0 k1 => by rw [(c10 k k0 k1).1]; exact (c10 k k0 k1).2
  refine h_back1 hh (hs_pg hh hp.1 hp.2) (hs_pg hh hq.1 hq.2) a1 a2 c1 c2 hx1 a4 a6 a7 a8 hf1 hf2 (fun bx bY hB => ?_)
  refine m_back1 hm hp hq (by rw [e4, ← dW, hWW]) (by rw [e5, ← dH, hHH]) hx1 a4 a6 a7 a8 (by rw [e3]; exact fun k k0 k1 => (a10 k k0 k1).2) (by rw [e3]; exact fun k k0 k1 => (c10 k k0 k1).2) (fun bx' bY' hB' => ?_)
  rw [e3] at hB'
  obtain ⟨rfl, rfl⟩ := hB.one (fun dx dy _ => psc_cg _ (fun j j0 j1 => by
    unfold scF
    show (255 - rh_and (Mh (251 + 39 * x1 + 1) j) 255) * _ = (255 - Mm 3 (6144 * x1 + j)) * _
    rw [(a10 j j0 (by omega)).1, bhv_cg (fun k k0 k1 => (c10 k k0 k1).1)])) hB'
  have ho := hB.1
  clear hB hB'
  have q1 : (5 * (bx + 2) + bY + 2) / 5 - 2 = bx := (by omega)
  have q2 : (5 * (bx + 2) + bY + 2) % 5 - 2 = bY := (by omega)
  have key : ∀ (vq : Nat) (k : Int) (M' N' : rhM), (W * H - k).toNat = vq → (0 ≤ k) → (k ≤ W * H) → (frx (fun a _ => a = 8 ∨ a = 9) Mh M') → (frx (fun a j => (a = 0 ∧ j = 0) ∨ a = 6) Mm N') → (M' 8 1 = W) → (M' 8 2 = H) → (∀ j, 0 ≤ j → j < k → rh_and (M' 9 j) 255 = N' 6 j ∧ 0 ≤ N' 6 j ∧ N' 6 j ≤ 255) → rh2 wh YX1_back 3 261 [(0, 2, 0), (3, 0, x3), (4, 2, 251 + 39 * x1), (5, 2, 251 + 39 * x2), (8, 0, 5 * (bx + 2) + bY + 2), (9, 0, k)] [] M' wm YX32_back 3 241 [(0, 2, 0), (1, 0, x1), (2, 0, x2), (3, 0, x3), (4, 0, W), (5, 0, H), (6, 0, bx), (7, 0, bY), (10, 0, k)] [] N' (fun r M' r2 M2' => r = r2 ∧ Pres Mh Mm M' M2') := by
    intro vq
    induction vq using Nat.strongRecOn with
    | ind vq ih =>
      intro k M' N' hvq k0 k1 f g s1 s2 hj
      have w1 : M' (251 + 39 * x1 + 1) = Mh (251 + 39 * x1 + 1) := f.cell (fun j => (by omega))
      have w2 : M' (251 + 39 * x2 + 1) = Mh (251 + 39 * x2 + 1) := f.cell (fun j => (by omega))
      have n3 : N' 3 = Mm 3 := g.cell (fun j => (by omega))
      refine rh2.l (rX1_back_261 hh _ _ _ _ _ _ (hs_pg hh hp.1 hp.2) (hs_pg hh hq.1 hq.2) ?_)
      rw [f _ _ (by omega), a1, f _ _ (by omega), a2, s1, w1, q1, q2]
      refine ⟨⟨by omega, by omega⟩, fun c => ?_, fun c => ?_⟩
      · have db := dm_b hx1 k0 c
        have dmk := dm k W
        refine ⟨⟨by omega, by omega⟩, fun u eu => ⟨⟨by omega, by omega⟩, fun v ev => ?_⟩⟩
        rw [← eu] at db dmk
        rw [← ev] at db dmk
        rw [← dmk]
        obtain ⟨fa, fb⟩ := a10 k k0 c
        -- writing a value on both sides
        have fin : ∀ t : Int, 0 ≤ t → t ≤ 255 → rh2 wh YX1_back 3 261 [(0, 2, 0), (3, 0, x3), (4, 2, 251 + 39 * x1), (5, 2, 251 + 39 * x2), (8, 0, 5 * (bx + 2) + bY + 2), (9, 0, k + 1)] [] (rh_set M' 9 k (rh_i2b t)) wm YX32_back 3 241 [(0, 2, 0), (1, 0, x1), (2, 0, x2), (3, 0, x3), (4, 0, W), (5, 0, H), (6, 0, bx), (7, 0, bY), (10, 0, k + 1)] [] (rh_set N' 6 k t) (fun r M' r2 M2' => r = r2 ∧ Pres Mh Mm M' M2') := fun t t0 t1 => by
          refine ih _ (by omega) (k + 1) _ _ rfl (by omega) (by omega) (f.st (.inr rfl)) (g.st (.inr rfl)) (by rw [rh_set_a (by decide), s1]) (by rw [rh_set_a (by decide), s2]) (fun j j0 j1 => ?_)
          by_cases q : j = k
          · rw [q, rh_set_s, rh_set_s, b255 t0 t1]
            exact ⟨rfl, t0, t1⟩
          · rw [rh_set_j q, rh_set_j q]; exact hj j j0 (by omega)
        refine ⟨⟨by omega, by omega⟩, fun p ep => ?_⟩
        rw [fa] at ep
        refine ⟨fun y => ⟨⟨by omega, by omega⟩, ⟨by omega, by omega⟩, ?_⟩, fun y => ⟨⟨by omega, by omega⟩, ⟨by omega, by omega⟩, ?_⟩⟩
        · refine rh2.r (rX32_back_241 hm _ _ _ _ _ _ _ _ _ ?_)
          rw [n3]
          refine ⟨⟨by omega, by omega⟩, fun _ => ⟨⟨by omega, by omega⟩, fun p2 ep2 => ⟨fun y2 => by omega, fun y2 p3 ep3 => ⟨⟨by omega, by omega⟩, ⟨by omega, by omega⟩, ?_⟩⟩⟩, fun d => absurd c d⟩
          have : p3 = p := (by omega)
          rw [this]
          exact fin p (by omega) (by omega)
        · refine rh2.sl (eS.fx 0 (x := bY) rfl ⟨by omega, by omega⟩ rfl) ?_
          refine rh2.sl (eS.fx 1 (x := bx) rfl ⟨by omega, by omega⟩ rfl) ?_
          have E := c_behindH hh (u := u) (v := v) (dx := bx) (dy := bY) (hs_pgs hh hq.1 hq.2) M' (by rw [f _ _ (by omega), c1]) (by rw [f _ _ (by omega), c2]) a4 a6 a8 db.1 db.2 ho
          rw [w2] at E
          refine rh2.sl (vX1_back_348 E (LE0 rfl)) ?_
          have bb := bhv_b (g := fun k => rh_and (Mh (251 + 39 * x2 + 1) k) 255) (W := W) (H := H) (u := u) (v := v) (dx := bx) (dy := bY) hf2
          generalize hbv : bhv (fun k => rh_and (Mh (251 + 39 * x2 + 1) k) 255) W H u v bx bY = bv at *
          refine rh2.l (rX1_back_351 hh _ _ _ _ _ _ _ _ _ _ _ _ (hs_pg hh hp.1 hp.2) (hs_pg hh hq.1 hq.2) ?_)
          rw [s1, ← dmk]
          refine ⟨⟨by omega, by omega⟩, ⟨by omega, by omega⟩, ⟨by omega, by omega⟩, ⟨by omega, by omega⟩, ⟨by omega, by omega⟩, ?_⟩
          refine rh2.r (rX32_back_241 hm _ _ _ _ _ _ _ _ _ ?_)
          rw [n3]
          refine ⟨⟨by omega, by omega⟩, fun _ => ⟨⟨by omega, by omega⟩, fun p2 ep2 => ⟨fun y2 => ⟨⟨by omega, by omega⟩, ⟨by omega, by omega⟩, ?_⟩, fun y2 => by omega⟩⟩, fun d => absurd c d⟩
          have hp2 : p2 = p := (by omega)
          rw [hp2, ← eu, ← ev]
          have E2 := c_behindM hm (u := u) (v := v) (dx := bx) (dy := bY) hq N' (by rw [g _ _ (by omega), ← dW, hWW]) (by rw [g _ _ (by omega), ← dH, hHH]) a4 a6 a8 db.1 db.2 ho
          rw [n3, ← bhv_cg (fun k k0 k1 => (c10 k k0 k1).1), hbv] at E2
          refine rh2.sr (vX32_back_303 hm E2 (LE0 rfl)) ?_
          refine rh2.r (rX32_back_306 hm _ _ _ _ _ _ _ _ _ _ _ _ _ _ ?_)
          refine ⟨⟨by omega, by omega⟩, ⟨by omega, by omega⟩, ⟨by omega, by omega⟩, fun t et => ⟨⟨by omega, by omega⟩, ⟨by omega, by omega⟩, ?_⟩⟩
          have ht2 : rh_if (p + (255 - bv) / 2 < 255) (p + (255 - bv) / 2) 255 = t := by
            rw [et, rh_ifd, rh_ifd]; split <;> split <;> omega
          rw [ht2]
          have tb : 0 ≤ t ∧ t ≤ 255 := by
            rw [← ht2, rh_ifd]; split <;> omega
          exact fin t tb.1 tb.2
      · refine ⟨ht, ?_⟩
        refine rh2.r (rX32_back_241 hm _ _ _ _ _ _ _ _ _ ?_)
        refine ⟨⟨by omega, by omega⟩, fun d => absurd d c, fun _ => ?_⟩
        refine rh2.sl (vX1_back_377 (hs_pg hh ht.1 ht.2) (c_lay hh (hs_pg hh ht.1 ht.2) (hs_sh hh) (by omega) M' (by rw [s1, s2]; exact a7) (by rw [s1, s2]; exact a8)) (LE0 rfl)) ?_
        refine rh2.sr (vX32_back_331 hm (c_bec hm ht N' a7 a8) (LE0 rfl)) ?_
        refine rh2.l (rX1_back_380 hh _ _ ?_)
        refine rh1.of (rX32_back_334 hm _ _ _ ?_)
        exact ⟨⟨by omega, by omega⟩, rfl, .inr ⟨x3, ht, Laid.mk R ht (f.w (fun a j h => by unfold Hw; omega)) (g.w (fun a j h => by unfold Gw; omega)) ⟨s1, s2, a3, a4, a5, a6, a7, a8, a9'.out, fun j j0 j1 => hj j j0 (by omega)⟩ hx1⟩⟩
  exact key _ 0 _ _ rfl (by omega) a7 ((frx.rf.st (.inl rfl)).st (.inl rfl)) (frx.rf.st (.inl ⟨rfl, rfl⟩)) (by simp [rh_sets]) (by simp [rh_sets]) (fun j j0 j1 => by omega)
end BackX
