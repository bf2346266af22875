/-! ===== LAYER 2: the look of a word ===== -/
section Look
variable {wh wm : rhW}
/-- the bits so far -/
noncomputable def lkb (ink : Int → Int) (W l t w h : Int) : Nat → Int
  | 0 => 0
  | k + 1 => rh_lor (lkb ink W l t w h k) (rh_if (ars ink W l t w h 9 8 ((k : Int) / 8) ((k : Int) % 8) < ars ink W l t w h 9 8 ((k : Int) / 8) ((k : Int) % 8 + 1)) (rh_lshl 1 (k : Int)) 0)
theorem lor_0 (a b : Int) : rh_lor (rh_lor a b) 0 = rh_lor a b := by
  unfold rh_lor
  rw [show rhJ (rhJ a ||| rhJ b).toInt = rhJ a ||| rhJ b from Int64.ofInt_toInt _, show rhJ 0 = 0 from rfl, Int64.or_zero]
theorem lkb_0 {ink : Int → Int} {W l t w h : Int} : ∀ k : Nat, rh_lor (lkb ink W l t w h k) 0 = lkb ink W l t w h k
  | 0 => show rh_lor 0 0 = 0 by decide
  | k + 1 => lor_0 _ _
theorem ars_cg {ink ink' : Int → Int} {W H l t w h C Rn r c : Int} (hl : 0 ≤ l ∧ l + w ≤ W) (ht : 0 ≤ t ∧ t + h ≤ H) (e : ∀ k, 0 ≤ k → k < W * H → (ink k ≠ 0 ↔ ink' k ≠ 0)) : ars ink W l t w h C Rn r c = ars ink' W l t w h C Rn r c := by
  unfold ars
  refine rsum_cg _ (fun v v0 v1 => rsum_cg _ (fun u u0 u1 => ?_))
  have kb := mul_lt (show 0 ≤ l + u by omega) (show l + u < W by omega) (show 0 ≤ t + v by omega) (show t + v < H by omega)
  have kz := Int.mul_nonneg (show 0 ≤ W by omega) (show 0 ≤ t + v by omega)
  have q := e (W * (t + v) + (l + u)) (by omega) kb
  unfold pxs
  by_cases z : ink (W * (t + v) + (l + u)) ≠ 0
  · rw [if_pos z, if_pos (q.mp z)]
  · rw [if_neg z, if_neg (fun y => z (q.mpr y))]
/-- one row of pixels -/
theorem m_lkR (hm : rh_ms wm) {M : rhM} {x3 x6 x9 W H l t w h r c s y : Int} (h17 : M 0 17 = W) (h40 : M 40 x3 = l) (h41 : M 41 x3 = t) (hx3 : 0 ≤ x3 ∧ x3 < 640) (hW : 0 ≤ W) (hN : W * H ≤ 6144) (hw : 0 < w ∧ w ≤ 128) (hh' : 0 < h ∧ h ≤ 96) (hl : 0 ≤ l ∧ l + w ≤ W) (ht : 0 ≤ t ∧ t + h ≤ H) (hr : 0 ≤ r ∧ r < 8) (hc : 0 ≤ c ∧ c < 9) (hy : 0 ≤ y ∧ y < h) (hs : 0 ≤ s ∧ s ≤ 884736) :
    eS wm YX32_lookAt 4 75 [(0, 2, 0), (3, 0, x3), (4, 0, w), (5, 0, h), (6, 1, x6), (8, 0, r), (9, 0, x9), (10, 0, c), (11, 0, s), (12, 0, y)] [] M 75 [(0, 2, 0), (3, 0, x3), (4, 0, w), (5, 0, h), (6, 1, x6), (8, 0, r), (9, 0, x9), (10, 0, c), (11, 0, s + rsum (fun u => pxs (M 11) W l t w h 9 8 r c y u) w.toNat), (12, 0, y + 1)] [] M := by
  have z1 := mulb hr.1 (show r ≤ 8 by omega) (show 0 ≤ h by omega) hh'.2
  have z2 := mulb (show 0 ≤ r + 1 by omega) (show r + 1 ≤ 8 by omega) (show 0 ≤ h by omega) hh'.2
  have z3 := mulb hc.1 (show c ≤ 9 by omega) (show 0 ≤ w by omega) hw.2
  have z4 := mulb (show 0 ≤ c + 1 by omega) (show c + 1 ≤ 9 by omega) (show 0 ≤ w by omega) hw.2
  obtain ⟨hi, ehi⟩ : ∃ hi, hi = ovl (8 * y) (8 * (y + 1)) (r * h) ((r + 1) * h) := ⟨_, rfl⟩
  have hib := ovl_b (a := 8 * y) (b := 8 * (y + 1)) (c := r * h) (d := (r + 1) * h) (by omega)
  rw [← ehi] at hib
  have row : ∀ (n u : Nat) (s' : Int), ((u : Int) + n) = w → s' = s + rsum (fun u => pxs (M 11) W l t w h 9 8 r c y u) u → 0 < hi → eS wm YX32_lookAt 4 115 [(0, 2, 0), (3, 0, x3), (4, 0, w), (5, 0, h), (6, 1, x6), (8, 0, r), (9, 0, x9), (10, 0, c), (11, 0, s'), (12, 0, y), (13, 0, hi), (14, 0, (u : Int))] [] M 75 [(0, 2, 0), (3, 0, x3), (4, 0, w), (5, 0, h), (6, 1, x6), (8, 0, r), (9, 0, x9), (10, 0, c), (11, 0, s + rsum (fun u => pxs (M 11) W l t w h 9 8 r c y u) w.toNat), (12, 0, y + 1)] [] M := by
    intro n
    induction n with
    | zero =>
      intro u s' hu hs' h0
      refine eS.of (fun P HP => ?_)
      refine rh1.of (rX32_lookAt_115 hm _ _ _ _ _ _ _ _ _ _ _ _ ?_)
      refine ⟨fun z => by omega, fun _ => ⟨⟨by omega, by omega⟩, ?_⟩⟩
      rw [hs', show u = w.toNat by omega]
      exact HP
    | succ n ih =>
      intro u s' hu hs' h0
      have sb := rsum_b (f := fun u => pxs (M 11) W l t w h 9 8 r c y u) (m := 72) u (fun j _ _ => pxs_b (by decide) (by decide))
      have kb := mul_lt (show 0 ≤ l + (u : Int) by omega) (show l + (u : Int) < W by omega) (show 0 ≤ t + y by omega) (show t + y < H by omega)
      have kz := Int.mul_nonneg hW (show 0 ≤ t + y by omega)
      have ei : (t + y) * W + l + (u : Int) = W * (t + y) + (l + (u : Int)) := by rw [Int.mul_comm (t + y) W]; omega
      have ob := ovl_b (a := 9 * (u : Int)) (b := 9 * ((u : Int) + 1)) (c := c * w) (d := (c + 1) * w) (by omega)
      have om := mulb hib.1 (show hi ≤ 8 by omega) ob.1 (show _ ≤ (9 : Int) by omega)
      refine eS.of (fun P HP => ?_)
      refine rh1.of (rX32_lookAt_115 hm _ _ _ _ _ _ _ _ _ _ _ _ ?_)
      rw [h17, h40, h41, ei]
      refine ⟨fun _ => ⟨hx3, hx3, ⟨by omega, by omega⟩, fun q => ?_, fun q => ⟨⟨by omega, by omega⟩, ?_⟩⟩, fun z => absurd ⟨by omega, h0⟩ z⟩
      · rw [ovl_i, ovl_c, show 9 * (u : Int) + 9 = 9 * ((u : Int) + 1) by omega]
        refine ⟨⟨by omega, by omega⟩, ⟨by omega, by omega⟩, ⟨by omega, by omega⟩, ⟨by omega, by omega⟩, ?_, ?_⟩
        · rw [rh_ifd, rh_ifd]; split <;> split <;> exact ⟨by omega, by omega⟩
        · intro v hv
          have ep : pxs (M 11) W l t w h 9 8 r c y u = hi * ovl (9 * (u : Int)) (9 * ((u : Int) + 1)) (c * w) ((c + 1) * w) := by
            unfold pxs; rw [if_pos q]; unfold shr; rw [ehi]
          have ev : v = s + rsum (fun u => pxs (M 11) W l t w h 9 8 r c y u) (u + 1) := by
            simp only [rsum]
            rw [ep, hv, hs']; omega
          refine ⟨⟨by omega, by omega⟩, ⟨by omega, by omega⟩, ?_⟩
          rw [show (u : Int) + 1 = ((u + 1 : Nat) : Int) by omega]
          exact rh1.s (ih (u + 1) v (by omega) ev h0) HP
      · have ep : pxs (M 11) W l t w h 9 8 r c y u = 0 := by unfold pxs; rw [if_neg q]
        rw [show (u : Int) + 1 = ((u + 1 : Nat) : Int) by omega]
        refine rh1.s (ih (u + 1) s' (by omega) ?_ h0) HP
        simp only [rsum]
        rw [ep, hs']; omega
  refine eS.of (fun P HP => ?_)
  refine rh1.of (rX32_lookAt_75 hm _ _ _ _ _ _ _ _ _ _ ?_)
  refine ⟨fun _ => ?_, fun z => by omega⟩
  rw [ovl_i]
  refine ⟨⟨by omega, by omega⟩, ⟨by omega, by omega⟩, ⟨by omega, by omega⟩, ⟨by omega, by omega⟩, ?_, fun hi' e' => ?_⟩
  · rw [rh_ifd, rh_ifd]; split <;> split <;> exact ⟨by omega, by omega⟩
  · have eh : hi' = hi := by rw [e', ehi, ovl_c, show 8 * y + 8 = 8 * (y + 1) by omega]
    rw [eh]
    by_cases h0 : 0 < hi
    · exact rh1.s (row w.toNat 0 s (by omega) (by simp only [rsum]; omega) h0) HP
    · refine rh1.of (rX32_lookAt_115 hm _ _ _ _ _ _ _ _ _ _ _ _ ?_)
      refine ⟨fun z => absurd z.2 h0, fun _ => ⟨⟨by omega, by omega⟩, ?_⟩⟩
      have hz : hi = 0 := by omega
      rw [rsum_0 w.toNat (fun j _ _ => by
        unfold pxs shr
        rw [← ehi, hz, Int.zero_mul]
        split <;> rfl), Int.add_zero] at HP
      exact HP
/-- one cell -/
theorem m_lkC (hm : rh_ms wm) {M : rhM} {x3 x6 x9 W H l t w h r c : Int} (h17 : M 0 17 = W) (h40 : M 40 x3 = l) (h41 : M 41 x3 = t) (hx3 : 0 ≤ x3 ∧ x3 < 640) (hW : 0 ≤ W) (hN : W * H ≤ 6144) (hw : 0 < w ∧ w ≤ 128) (hh' : 0 < h ∧ h ≤ 96) (hl : 0 ≤ l ∧ l + w ≤ W) (ht : 0 ≤ t ∧ t + h ≤ H) (hr : 0 ≤ r ∧ r < 8) (hc : 0 ≤ c ∧ c < 9) :
    eS wm YX32_lookAt 4 75 [(0, 2, 0), (3, 0, x3), (4, 0, w), (5, 0, h), (6, 1, x6), (8, 0, r), (9, 0, x9), (10, 0, c), (11, 0, 0), (12, 0, 0)] [] M 75 [(0, 2, 0), (3, 0, x3), (4, 0, w), (5, 0, h), (6, 1, x6), (8, 0, r), (9, 0, x9), (10, 0, c), (11, 0, ars (M 11) W l t w h 9 8 r c), (12, 0, h)] [] M := by
  have rb : ∀ v, 0 ≤ rsum (fun u => pxs (M 11) W l t w h 9 8 r c v u) w.toNat ∧ rsum (fun u => pxs (M 11) W l t w h 9 8 r c v u) w.toNat ≤ 9216 := fun v => by
    have := rsum_b (f := fun u => pxs (M 11) W l t w h 9 8 r c v u) (m := 72) w.toNat (fun j _ _ => pxs_b (by decide) (by decide))
    omega
  have rows : ∀ (n y : Nat), ((y : Int) + n) = h → eS wm YX32_lookAt 4 75 [(0, 2, 0), (3, 0, x3), (4, 0, w), (5, 0, h), (6, 1, x6), (8, 0, r), (9, 0, x9), (10, 0, c), (11, 0, rsum (fun v => rsum (fun u => pxs (M 11) W l t w h 9 8 r c v u) w.toNat) y), (12, 0, (y : Int))] [] M 75 [(0, 2, 0), (3, 0, x3), (4, 0, w), (5, 0, h), (6, 1, x6), (8, 0, r), (9, 0, x9), (10, 0, c), (11, 0, ars (M 11) W l t w h 9 8 r c), (12, 0, h)] [] M := by
    intro n
    induction n with
    | zero =>
      intro y hy
      unfold ars
      rw [show h.toNat = y by omega, show h = (y : Int) by omega]
      exact eS.rf
    | succ n ih =>
      intro y hy
      have sb := rsum_b (f := fun v => rsum (fun u => pxs (M 11) W l t w h 9 8 r c v u) w.toNat) (m := 9216) y (fun j _ _ => rb j)
      have st := m_lkR hm (x3 := x3) (x6 := x6) (x9 := x9) (s := rsum (fun v => rsum (fun u => pxs (M 11) W l t w h 9 8 r c v u) w.toNat) y) (y := (y : Int)) h17 h40 h41 hx3 hW hN hw hh' hl ht hr hc ⟨by omega, by omega⟩ ⟨by omega, by omega⟩
      have nx := ih (y + 1) (by omega)
      rw [show ((y + 1 : Nat) : Int) = (y : Int) + 1 by omega] at nx
      simp only [rsum] at nx
      exact st.tr nx
  exact rows h.toNat 0 (by omega)
theorem m_lkB (hm : rh_ms wm) {M : rhM} {x3 W H l t w h r : Int} (h17 : M 0 17 = W) (h40 : M 40 x3 = l) (h41 : M 41 x3 = t) (hx3 : 0 ≤ x3 ∧ x3 < 640) (hW : 0 ≤ W) (hN : W * H ≤ 6144) (hw : 0 < w ∧ w ≤ 128) (hh' : 0 < h ∧ h ≤ 96) (hl : 0 ≤ l ∧ l + w ≤ W) (ht : 0 ≤ t ∧ t + h ≤ H) (hr : 0 ≤ r ∧ r < 8) :
    eS wm YX32_lookAt 4 49 [(0, 2, 0), (3, 0, x3), (4, 0, w), (5, 0, h), (6, 1, lkb (M 11) W l t w h (8 * r).toNat), (8, 0, r)] [] M 49 [(0, 2, 0), (3, 0, x3), (4, 0, w), (5, 0, h), (6, 1, lkb (M 11) W l t w h (8 * (r + 1)).toNat), (8, 0, r + 1)] [] M := by
  have cell := fun (x6 x9 c : Int) (hc : 0 ≤ c ∧ c < 9) => m_lkC hm (M := M) (x3 := x3) (x6 := x6) (x9 := x9) (c := c) h17 h40 h41 hx3 hW hN hw hh' hl ht hr hc
  have cs : ∀ (n c : Nat), ((c : Int) + n) = 9 → 1 ≤ c → eS wm YX32_lookAt 4 62 [(0, 2, 0), (3, 0, x3), (4, 0, w), (5, 0, h), (6, 1, lkb (M 11) W l t w h ((8 * r).toNat + (c - 1))), (8, 0, r), (9, 0, ars (M 11) W l t w h 9 8 r ((c : Int) - 1)), (10, 0, (c : Int))] [] M 49 [(0, 2, 0), (3, 0, x3), (4, 0, w), (5, 0, h), (6, 1, lkb (M 11) W l t w h (8 * (r + 1)).toNat), (8, 0, r + 1)] [] M := by
    intro n
    induction n with
    | zero =>
      intro c hc c1
      have e9 : c = 9 := by omega
      rw [e9]
      refine eS.of (fun P HP => ?_)
      refine rh1.of (rX32_lookAt_62 hm _ _ _ _ _ _ _ _ ?_)
      refine ⟨fun z => absurd z (by decide), fun _ => ⟨⟨by omega, by omega⟩, ?_⟩⟩
      rw [show (8 * r).toNat + (9 - 1) = (8 * (r + 1)).toNat by omega]
      exact HP
    | succ n ih =>
      intro c hc c1
      refine eS.of (fun P HP => ?_)
      refine rh1.of (rX32_lookAt_62 hm _ _ _ _ _ _ _ _ ?_)
      refine ⟨fun _ => rh1.s (cell _ _ (c : Int) ⟨by omega, by omega⟩) ?_, fun z => by omega⟩
      refine rh1.of (rX32_lookAt_75 hm _ _ _ _ _ _ _ _ _ _ ?_)
      refine ⟨fun z => by omega, fun _ v hv => ⟨⟨by omega, by omega⟩, ?_⟩⟩
      have nx := ih (c + 1) (by omega) (by omega)
      rw [show ((c + 1 : Nat) : Int) = (c : Int) + 1 by omega, show (c : Int) + 1 - 1 = (c : Int) by omega, show (8 * r).toNat + (c + 1 - 1) = (8 * r).toNat + (c - 1) + 1 by omega] at nx
      have ev : v = lkb (M 11) W l t w h ((8 * r).toNat + (c - 1) + 1) := by
        rw [hv]
        simp only [lkb]
        have k1 : ((((8 * r).toNat + (c - 1) : Nat)) : Int) = 8 * r + (c : Int) - 1 := by omega
        rw [k1, show (8 * r + (c : Int) - 1) / 8 = r by omega, show (8 * r + (c : Int) - 1) % 8 = (c : Int) - 1 by omega, show (c : Int) - 1 + 1 = (c : Int) by omega]
        by_cases q : ars (M 11) W l t w h 9 8 r ((c : Int) - 1) < ars (M 11) W l t w h 9 8 r (c : Int)
        · rw [rh_if_t (show (0 < (c : Int)) ∧ _ from ⟨by omega, q⟩), rh_if_t q]
        · rw [rh_if_f (fun z => q z.2), rh_if_f q]
      rw [ev]
      exact rh1.s nx HP
  refine eS.of (fun P HP => ?_)
  refine rh1.of (rX32_lookAt_49 hm _ _ _ _ _ _ ?_)
  refine ⟨fun _ => ?_, fun z => by omega⟩
  refine rh1.of (rX32_lookAt_62 hm _ _ _ _ _ _ _ _ ?_)
  refine ⟨fun _ => rh1.s (cell _ _ 0 ⟨by omega, by omega⟩) ?_, fun z => absurd (by decide) z⟩
  refine rh1.of (rX32_lookAt_75 hm _ _ _ _ _ _ _ _ _ _ ?_)
  refine ⟨fun z => by omega, fun _ v hv => ⟨⟨by omega, by omega⟩, ?_⟩⟩
  rw [rh_if_f (fun z => absurd z.1 (by decide)), lkb_0] at hv
  rw [hv]
  have := cs 8 1 (by omega) (by omega)
  exact rh1.s this HP
/-- the model's look -/
theorem c_lookM (hm : rh_ms wm) {Mm N : rhM} {p i W H l t r b r0 : Int} (hp : 0 ≤ p ∧ p < 8) (hi : 0 ≤ i ∧ i < 80) (K : eC wm YX32_inkOfWord 3 [(2, 0), (0, p), (0, i)] Mm r0 N) (h17 : N 0 17 = W) (h40 : N 40 (80 * p + i) = l) (h41 : N 41 (80 * p + i) = t) (h42 : N 42 (80 * p + i) = r) (h43 : N 43 (80 * p + i) = b) (hW : 0 ≤ W ∧ W ≤ 128) (hH : H ≤ 96) (hN : W * H ≤ 6144) (hl : 0 ≤ l ∧ l < r ∧ r ≤ W) (ht : 0 ≤ t ∧ t < b ∧ b ≤ H) : eC wm YX32_lookAt 4 [(2, 0), (0, p), (0, i)] Mm (lkb (N 11) W l t (r - l) (b - t) 64) N := by
  refine eC.of1 (rC1.of (by decide) (LE0 rfl) ?_)
  refine rh1.of (rX32_lookAt_0 hm _ _ _ ?_)
  refine rh1.s (vX32_lookAt_3 hm K (LE0 rfl)) ?_
  refine rh1.of (rX32_lookAt_6 hm _ _ _ ?_)
  rw [h40, h41, h42, h43]
  refine ⟨⟨by omega, by omega⟩, ⟨by omega, by omega⟩, ⟨by omega, by omega⟩, ?_⟩
  (intro zq hzq; replace hzq := hzq.symm; subst hzq)
  refine ⟨⟨by omega, by omega⟩, ⟨by omega, by omega⟩, ⟨by omega, by omega⟩, ?_⟩
  (intro zq hzq; replace hzq := hzq.symm; subst hzq)
  refine ⟨⟨by omega, by omega⟩, ?_⟩
  have rows : ∀ (n k : Nat), k + n = 8 → eS wm YX32_lookAt 4 49 [(0, 2, 0), (3, 0, 80 * p + i), (4, 0, r - l), (5, 0, b - t), (6, 1, lkb (N 11) W l t (r - l) (b - t) (8 * k)), (8, 0, (k : Int))] [] N 49 [(0, 2, 0), (3, 0, 80 * p + i), (4, 0, r - l), (5, 0, b - t), (6, 1, lkb (N 11) W l t (r - l) (b - t) 64), (8, 0, 8)] [] N := by
    intro n
    induction n with
    | zero =>
      intro k hk
      rw [show k = 8 by omega]
      exact eS.rf
    | succ n ih =>
      intro k hk
      have st := m_lkB hm (M := N) (x3 := 80 * p + i) (r := (k : Int)) (w := r - l) (h := b - t) h17 h40 h41 ⟨by omega, by omega⟩ hW.1 hN ⟨by omega, by omega⟩ ⟨by omega, by omega⟩ ⟨by omega, by omega⟩ ⟨by omega, by omega⟩ ⟨by omega, by omega⟩
      rw [show (8 * (k : Int)).toNat = 8 * k by omega, show (8 * ((k : Int) + 1)).toNat = 8 * (k + 1) by omega] at st
      have nx := ih (k + 1) (by omega)
      rw [show ((k + 1 : Nat) : Int) = (k : Int) + 1 by omega] at nx
      exact st.tr nx
  refine rh1.s (rows 8 0 rfl) ?_
  refine rh1.of (rX32_lookAt_49 hm _ _ _ _ _ _ ?_)
  exact ⟨fun z => absurd z (by decide), fun _ => ⟨rfl, rfl⟩⟩
/-- the house's look -/
abbrev Flk (c j : Int) : Prop := Fpr c j ∨ c = 25 ∨ c = 31 ∨ c = 32
theorem c_lookH (hh : rh_hs wh) {Mh M1 : rhM} {p i W H l t r b r0 : Int} {ink : Int → Int} (hp : 0 ≤ p ∧ p < 8) (hi : 0 ≤ i ∧ i < 80) (K : eC wh YX16_prepare 2 [(2, 25), (2, 251 + 39 * p), (0, i)] Mh r0 M1) (f1 : frx Fpr Mh M1) (hc : CtH M1 (251 + 39 * p) i W H ink) (hW : 0 ≤ W ∧ W ≤ 128) (hH : H ≤ 96) (hN : W * H ≤ 6144) (h19 : M1 (251 + 39 * p + 9 + 19) i = l) (h20 : M1 (251 + 39 * p + 9 + 20) i = t) (h21 : M1 (251 + 39 * p + 9 + 21) i = r) (h22 : M1 (251 + 39 * p + 9 + 22) i = b) (hl : 0 ≤ l ∧ l < r ∧ r ≤ W) (ht : 0 ≤ t ∧ t < b ∧ b ≤ H) (hbox : ∀ u v, 0 ≤ u → u < W → 0 ≤ v → v < H → ink (W * v + u) ≠ 0 → (l ≤ u ∧ u < r) ∧ (t ≤ v ∧ v < b)) (tg : Tgi ink W H l t r b) : ∃ A, eC wh YX1_lookOf 4 [(2, 0), (2, 251 + 39 * p), (0, i)] Mh (lkb ink W l t (r - l) (b - t) 64) A ∧ frx Flk Mh A := by
  have hx := hs_pg hh hp.1 hp.2
  have hy : rh_bl wh 1 (251 + 39 * p + 9) 0 := by
    have := hs_ly hh hp.1 hp.2
    rwa [show 260 + 39 * p = 251 + 39 * p + 9 by omega] at this
  obtain ⟨x, hxx⟩ : ∃ x, x = 251 + 39 * p := ⟨_, rfl⟩
  have hx2 : 100 ≤ x := by omega
  rw [← hxx] at hx hy K hc h19 h20 h21 h22 ⊢
  obtain ⟨r2, M2, E2, f2, -, X2⟩ := c_hasColumns hh (a := l) (b := r) (l0 := l) (r0 := r) (t0 := t) (b0 := b) hx hy hx2 M1 hc hW.1 hW.2 hH hN hi ht h20 h22 hbox hl.1 hl.2.2
  have hv : HV (Ikc ink W H l r) l t r b := by
    obtain ⟨⟨u1, v1, p1, e1⟩, ⟨u2, v2, p2, e2⟩, ⟨u3, v3, p3, e3⟩, ⟨u4, v4, p4, e4⟩⟩ := tg
    have ins : ∀ u v, ((0 ≤ u ∧ u < W) ∧ (0 ≤ v ∧ v < H) ∧ ink (W * v + u) ≠ 0) → Ikc ink W H l r u v := fun u v h => ⟨(hbox u v h.1.1 h.1.2 h.2.1.1 h.2.1.2 h.2.2).1, h.2.1, h.2.2⟩
    refine ⟨fun u v h => ?_, ⟨u1, v1, ins _ _ p1, e1⟩, ⟨u2, v2, ins _ _ p2, e2⟩, ⟨u3, v3, ins _ _ p3, e3⟩, ⟨u4, v4, ins _ _ p4, e4⟩⟩
    obtain ⟨a1, a2, a3⟩ := h
    have := hbox u v (by omega) (by omega) a2.1 a2.2 a3
    omega
  have bx : M2 25 11 = l ∧ M2 25 12 = t ∧ M2 25 13 = r ∧ M2 25 14 = b := by
    rcases X2 with X2 | X2
    · obtain ⟨-, ⟨u, v, h, -⟩, -⟩ := hv
      exact absurd h (X2.1 u v)
    · obtain ⟨q1, q2, q3, q4⟩ := X2.one hv
      exact ⟨q1, q2, q3, q4⟩
  have hc2 : CtH M2 x i W H ink := hc.fx (f2 _ _ (by omega)) (f2 _ _ (by omega)) (f2 _ _ (by omega)) (f2.cell (fun j => (by omega))) (f2.cell (fun j => (by omega)))
  obtain ⟨r3, M3, E3, f3, v3⟩ := c_measure hh (C := 9) (Rn := 8) (l := l) (t := t) (r := r) (b := b) hx hx2 M2 hc2 hW.1 hW.2 hH hN (by decide) (by decide) bx.1 bx.2.1 bx.2.2.1 bx.2.2.2 hl ht
  refine ⟨M3, eC.of1 (rC1.of (by decide) (LE0 rfl) ?_), (f1.w (fun c j h => .inl h)).tr ((f2.w (fun c j h => .inr (.inl h.1))).tr (f3.w (fun c j h => .inr (.inr (.inr h)))))⟩
  refine rh1.of (rX1_lookOf_0 hh _ _ _ hx ?_)
  refine rh1.s (vX1_lookOf_11 hh K (LE0 rfl)) ?_
  refine rh1.of (rX1_lookOf_14 hh _ _ _ hy ?_)
  rw [h19, h21]
  refine ⟨hi, hi, rh1.s (vX1_lookOf_30 hh E2 (LE0 rfl)) ?_⟩
  refine rh1.of (rX1_lookOf_33 hh _ _ ?_)
  refine rh1.s (vX1_lookOf_42 hh E3 (LE0 rfl)) ?_
  refine rh1.of (rX1_lookOf_45 hh _ ?_)
  have bits : ∀ (n k : Nat), k + n = 64 → eS wh YX1_lookOf 4 51 [(0, 2, 0), (4, 1, lkb ink W l t (r - l) (b - t) k), (6, 0, (k : Int))] [] M3 51 [(0, 2, 0), (4, 1, lkb ink W l t (r - l) (b - t) 64), (6, 0, 64)] [] M3 := by
    intro n
    induction n with
    | zero =>
      intro k hk
      rw [show k = 64 by omega]
      exact eS.rf
    | succ n ih =>
      intro k hk
      refine eS.of (fun P HP => ?_)
      refine rh1.of (rX1_lookOf_51 hh _ _ _ ?_)
      have e1 := v3 ((k : Int) / 8) ((k : Int) % 8) (by omega) (by omega) (by omega) (by omega)
      have e2 := v3 ((k : Int) / 8) ((k : Int) % 8 + 1) (by omega) (by omega) (by omega) (by omega)
      refine ⟨fun _ => ⟨⟨by omega, by omega⟩, ⟨by omega, by omega⟩, ?_⟩, fun z => by omega⟩
      intro a ha
      have a1 : a = 9 * ((k : Int) / 8) + (k : Int) % 8 := by omega
      rw [a1]
      refine ⟨⟨by omega, by omega⟩, ⟨by omega, by omega⟩, ⟨by omega, by omega⟩, ⟨by omega, by omega⟩, ?_⟩
      rw [show 9 * ((k : Int) / 8) + (k : Int) % 8 + 1 = 9 * ((k : Int) / 8) + ((k : Int) % 8 + 1) by omega, e1, e2]
      intro v hv
      have ev : v = lkb ink W l t (r - l) (b - t) (k + 1) := hv
      rw [ev]
      refine ⟨⟨by omega, by omega⟩, ?_⟩
      rw [show (k : Int) + 1 = ((k + 1 : Nat) : Int) by omega]
      exact rh1.s (ih (k + 1) (by omega)) HP
  refine rh1.s (bits 64 0 rfl) ?_
  refine rh1.of (rX1_lookOf_51 hh _ _ _ ?_)
  exact ⟨fun z => absurd z (by decide), fun _ => ⟨rfl, rfl⟩⟩
theorem if10L {P : Prop} : rh_if P (1 : Int) 0 ≠ 0 ↔ P := by
  by_cases h : P
  · rw [rh_if_t h]; exact ⟨fun _ => h, fun _ => by decide⟩
  · rw [rh_if_f h]; exact ⟨fun z => absurd rfl z, fun z => absurd z h⟩
theorem lkb_cg {ink ink' : Int → Int} {W H l t w h : Int} (hl : 0 ≤ l ∧ l + w ≤ W) (ht : 0 ≤ t ∧ t + h ≤ H) (e : ∀ k, 0 ≤ k → k < W * H → (ink k ≠ 0 ↔ ink' k ≠ 0)) : ∀ k : Nat, lkb ink W l t w h k = lkb ink' W l t w h k
  | 0 => rfl
  | k + 1 => by
    simp only [lkb]
    rw [lkb_cg hl ht e k, ars_cg (r := (k : Int) / 8) (c := (k : Int) % 8) hl ht e, ars_cg (r := (k : Int) / 8) (c := (k : Int) % 8 + 1) hl ht e]
/-- the look by the house's page -/
noncomputable def lkV (A : rhM) (p i : Int) : Int := lkb (fun k => rh_if (A (251 + 39 * p + 2) k ≠ -1 ∧ A (251 + 39 * p + 32) (A (251 + 39 * p + 2) k) = i) 1 0) (A (251 + 39 * p) 1) (A (251 + 39 * p + 9 + 19) i) (A (251 + 39 * p + 9 + 20) i) (A (251 + 39 * p + 9 + 21) i - A (251 + 39 * p + 9 + 19) i) (A (251 + 39 * p + 9 + 22) i - A (251 + 39 * p + 9 + 20) i) 64
theorem lkV_f {A A' : rhM} {p i : Int} (hp : 0 ≤ p) (h : ∀ c : Int, 251 ≤ c → A' c = A c) : lkV A' p i = lkV A p i := by
  unfold lkV
  rw [h (251 + 39 * p + 2) (by omega), h (251 + 39 * p + 32) (by omega), h (251 + 39 * p) (by omega), h (251 + 39 * p + 9 + 19) (by omega), h (251 + 39 * p + 9 + 20) (by omega), h (251 + 39 * p + 9 + 21) (by omega), h (251 + 39 * p + 9 + 22) (by omega)]
/-- one word's look on both sides -/
theorem t_lookW (hh : rh_hs wh) (hm : rh_ms wm) {Mh Mm : rhM} {p i : Int} (P : Pgd Mh Mm p) (hp : 0 ≤ p ∧ p < 8) (hi : 0 ≤ i ∧ i < Mm 26 p) : ∃ A B, eC wh YX1_lookOf 4 [(2, 0), (2, 251 + 39 * p), (0, i)] Mh (lkV Mh p i) A ∧ eC wm YX32_lookAt 4 [(2, 0), (0, p), (0, i)] Mm (lkV Mh p i) B ∧ frx Flk Mh A ∧ frx Giw Mm B := by
  obtain ⟨R0, hW0, S0, LL, LW⟩ := P
  obtain ⟨r0, M1, r2, M2, K1, -, f1, -, P1, -, ⟨r3, N, K3, n11, n17, g3⟩, tg⟩ := c_prepareX hh hm hp R0 hW0 S0 LL LW hi
  have LW2 := LW
  obtain ⟨tot, -, WD, -⟩ := LW2
  have i80 : i < 80 := by have := WD.2.1; omega
  obtain ⟨⟨l0, -, -, WB⟩, -⟩ := WD.2.2.1 i hi.1 hi.2
  obtain ⟨-, -, ⟨c3, c4, c5, c6⟩, c7, c8, -⟩ := WB
  obtain ⟨q1, q2, q3, q4, q5, q6, q7, q8, -⟩ := R0
  obtain ⟨a1, -, ⟨l, t, r, b, b1, b2, -, b4, b5, b6, b7, b8⟩, -⟩ := P1
  have x2 : 251 ≤ 251 + 39 * p := by omega
  have m1 : ∀ c, 251 + 39 * p ≤ c → M1 c i = Mh c i := fun c hc => f1 c i (by unfold Fpr; omega)
  have el : l = Mm 40 (80 * p + i) := by rw [← b4, m1 _ (by omega), c3]
  have et : t = Mm 41 (80 * p + i) := by rw [← b5, m1 _ (by omega), c4]
  have er : r = Mm 42 (80 * p + i) := by rw [← b6, m1 _ (by omega), c5]
  have eb : b = Mm 43 (80 * p + i) := by rw [← b7, m1 _ (by omega), c6]
  rw [← el, ← et, ← er, ← eb] at tg
  obtain ⟨A, EA, fA⟩ := c_lookH hh hp ⟨hi.1, i80⟩ K1 f1 a1 ⟨by omega, q4⟩ q6 q8 b4 b5 b6 b7 b1 b2 b8 tg
  have g4 : ∀ c j, 40 ≤ c → c ≤ 43 → N c j = Mm c j := fun c j h1 h2 => g3 c j (by unfold Giw; omega)
  have EB := c_lookM hm (W := Mm 4 p) (H := Mm 5 p) (l := l) (t := t) (r := r) (b := b) hp ⟨hi.1, i80⟩ K3 n17 (by rw [g4 40 _ (by decide) (by decide), el]) (by rw [g4 41 _ (by decide) (by decide), et]) (by rw [g4 42 _ (by decide) (by decide), er]) (by rw [g4 43 _ (by decide) (by decide), eb]) ⟨by omega, q4⟩ q6 q8 b1 b2
  rw [n11] at EB
  have lv : lkb (M2 11) (Mm 4 p) l t (r - l) (b - t) 64 = lkV Mh p i := by
    have e := lkb_cg (ink := M2 11) (ink' := fun k => rh_if (Mh (251 + 39 * p + 2) k ≠ -1 ∧ Mh (251 + 39 * p + 32) (Mh (251 + 39 * p + 2) k) = i) 1 0) (W := Mm 4 p) (H := Mm 5 p) (l := l) (t := t) (w := r - l) (h := b - t) ⟨by omega, by omega⟩ ⟨by omega, by omega⟩ (fun k k0 k1 => by
      have a := (a1.2.2.2 k k0 k1).2
      rw [f1 (251 + 39 * p + 2) k (by unfold Fpr; omega), f1 (251 + 39 * p + 32) _ (by unfold Fpr; omega)] at a
      rw [← a]
      exact if10L.symm) 64
    rw [e]
    unfold lkV
    rw [q1, ← m1 _ (show 251 + 39 * p ≤ 251 + 39 * p + 9 + 19 by omega), ← m1 _ (show 251 + 39 * p ≤ 251 + 39 * p + 9 + 20 by omega), ← m1 _ (show 251 + 39 * p ≤ 251 + 39 * p + 9 + 21 by omega), ← m1 _ (show 251 + 39 * p ≤ 251 + 39 * p + 9 + 22 by omega), b4, b5, b6, b7]
  rw [lv] at EA EB
  exact ⟨A, N, EA, EB, fA, g3⟩
/-- whether there is such a word, in the house -/
theorem c_laidH (hh : rh_hs wh) {Mh Mm : rhM} (R : Rpg Mh Mm) (Y : Rly Mh Mm) (x1 x2 : Int) : ∃ v, eC wh YX1_laidWord 4 [(2, 0), (0, x1), (0, x2)] Mh v Mh ∧ (v = 0 ↔ (((0 ≤ x1) ∧ (x1 ≤ 7)) ∧ (0 < Mm 4 x1)) ∧ ((Mm 23 x1 ≠ 0) ∧ ((0 ≤ x2) ∧ (x2 ≤ Mm 26 x1 - 1)))) := by
  by_cases z1 : ((0 ≤ x1) ∧ (x1 ≤ 7)) ∧ (0 < Mm 4 x1)
  · have pg := (R x1 (by omega) (by omega)).2.mpr z1.2
    obtain ⟨y1, -, y3⟩ := Y x1 (by omega) (by omega)
    by_cases z2 : Mm 23 x1 = 0
    · refine ⟨-103, eC.of1 (rC1.of (by decide) (LE0 rfl) ?_), fun z => absurd z (by decide), fun z => absurd z2 z.2.1⟩
      refine rh1.of (rX1_laidWord_0 hh _ _ _ ?_)
      refine ⟨(by omega), (by omega), fun v ev => ?_⟩
      rw [rh_if_f (fun y => y ⟨z1.1, pg⟩), rh_if_f (by rw [y1]; exact fun y => y z2)] at ev
      exact ⟨fun _ => ⟨ev, rfl⟩, fun y => absurd (by omega) y⟩
    · obtain ⟨-, -, -, tot, -, WD, -⟩ := y3 z2
      have w1 := WD.1
      have w2 := WD.2.1
      clear WD y3
      refine ⟨rh_if ((0 ≤ x2) ∧ (x2 ≤ Mm 26 x1 - 1)) 0 (-101), eC.of1 (rC1.of (by decide) (LE0 rfl) ?_), ?_⟩
      · refine rh1.of (rX1_laidWord_0 hh _ _ _ ?_)
        refine ⟨(by omega), (by omega), fun v ev => ?_⟩
        rw [rh_if_f (fun y => y ⟨z1.1, pg⟩), rh_if_t (by rw [y1]; exact z2)] at ev
        rw [w1]
        exact ⟨fun y => absurd ev y, fun _ => ⟨⟨by omega, by omega⟩, ⟨by omega, by omega⟩, rfl, rfl⟩⟩
      · by_cases z3 : (0 ≤ x2) ∧ (x2 ≤ Mm 26 x1 - 1)
        · rw [rh_if_t z3]; exact ⟨fun _ => ⟨z1, z2, z3⟩, fun _ => rfl⟩
        · rw [rh_if_f z3]; exact ⟨fun y => absurd y (by decide), fun y => absurd y.2.2 z3⟩
  · refine ⟨-101, eC.of1 (rC1.of (by decide) (LE0 rfl) ?_), fun z => absurd z (by decide), fun z => absurd z.1 z1⟩
    refine rh1.of (rX1_laidWord_0 hh _ _ _ ?_)
    refine ⟨(by omega), (by omega), fun v ev => ?_⟩
    rw [rh_if_t (fun y => z1 ⟨y.1, (R x1 (by have := y.1; omega) (by have := y.1; omega)).2.mp y.2⟩)] at ev
    exact ⟨fun _ => ⟨ev, rfl⟩, fun y => absurd (by omega) y⟩
theorem op_look (hh : rh_hs wh) (hm : rh_ms wm) {Mh Mm : rhM} (R : Rpg Mh Mm) (S : Rsr Mh) (Y : Rly Mh Mm) (x1 x2 : Int) : rC2 wh YX1_look 5 [(2, 0), (0, x1), (0, x2)] Mh wm YX32_look 5 [(2, 0), (0, x1), (0, x2)] Mm (fun r M' r2 M2' => r = r2 ∧ frx Flk Mh M' ∧ frx (fun c j => (c = 0 ∧ j = 0) ∨ Giw c j) Mm M2') := by
  obtain ⟨M0, hM0⟩ : ∃ M0, M0 = rh_set Mm 0 0 0 := ⟨_, rfl⟩
  have g0 : frx (fun c j => (c = 0 ∧ j = 0) ∨ Giw c j) Mm M0 := by rw [hM0]; exact frx.rf.st (.inl ⟨rfl, rfl⟩)
  obtain ⟨r, E1, hr⟩ := c_laidH hh R Y x1 x2
  have m4 : M0 4 x1 = Mm 4 x1 := by rw [hM0]; exact rh_set_a (by decide)
  have m23 : M0 23 x1 = Mm 23 x1 := by rw [hM0]; exact rh_set_a (by decide)
  have m26 : M0 26 x1 = Mm 26 x1 := by rw [hM0]; exact rh_set_a (by decide)
  have W2 : ∀ q : ((0 ≤ x1) ∧ (x1 ≤ 7)) ∧ (0 < Mm 4 x1), Mm 23 x1 ≠ 0 → 0 ≤ Mm 26 x1 ∧ Mm 26 x1 ≤ 80 := fun q h => by
    obtain ⟨-, -, y3⟩ := Y x1 (by omega) (by omega)
    obtain ⟨-, -, -, tot, -, WD, -⟩ := y3 h
    exact WD.2.1
  by_cases z0 : r = 0
  · obtain ⟨z1, z2, z3⟩ := hr.mp z0
    have w2 := W2 z1 z2
    have hp : 0 ≤ x1 ∧ x1 < 8 := ⟨by omega, by omega⟩
    obtain ⟨-, -, y3⟩ := Y x1 hp.1 hp.2
    obtain ⟨h4, -, LL, LW⟩ := y3 z2
    have P0 : Pgd Mh Mm x1 := ⟨(R x1 hp.1 hp.2).1, z1.2, S x1 hp.1 hp.2 h4, LL, LW⟩
    have P1 : Pgd Mh M0 x1 := P0.fx hp.1 (fun c _ => rfl) (fun c hc => by rw [hM0]; exact rh_set_n (by omega))
    obtain ⟨A, B, EA, EB, fA, fB⟩ := t_lookW hh hm P1 hp (i := x2) (by rw [m26]; exact ⟨by omega, by omega⟩)
    refine ⟨lkV Mh x1 x2, A, lkV Mh x1 x2, B, eC.of1 (rC1.of (by decide) (LE0 rfl) ?_), eC.of1 (rC1.of (by decide) (LE0 rfl) ?_), rfl, fA, g0.tr (fB.w (fun c j h => .inr h))⟩
    · refine rh1.of (rX1_look_0 hh _ _ _ ?_)
      refine rh1.s (vX1_look_3 hh E1 (LE0 rfl)) ?_
      refine rh1.of (rX1_look_6 hh _ _ _ _ ?_)
      refine ⟨fun _ => ⟨hp, rh1.s (vX1_look_17 hh EA (LE0 rfl)) ?_⟩, fun z => absurd z0 z⟩
      refine rh1.of (rX1_look_20 hh _ _ ?_)
      exact ⟨rfl, rfl⟩
    · refine rh1.of (rX32_look_0 hm _ _ _ ?_)
      rw [← hM0, m26, m4, m23]
      refine ⟨fun _ => hp, fun _ => hp, fun _ _ => hp, fun _ _ => ⟨by omega, by omega⟩, fun _ => rh1.s (vX32_look_43 hm EB (LE0 rfl)) ?_, fun z => absurd ⟨z1, z2, z3⟩ z⟩
      refine rh1.of (rX32_look_46 hm _ _ ?_)
      exact ⟨rfl, rfl⟩
  · refine ⟨0, Mh, 0, M0, eC.of1 (rC1.of (by decide) (LE0 rfl) ?_), eC.of1 (rC1.of (by decide) (LE0 rfl) ?_), rfl, frx.rf, g0⟩
    · refine rh1.of (rX1_look_0 hh _ _ _ ?_)
      refine rh1.s (vX1_look_3 hh E1 (LE0 rfl)) ?_
      refine rh1.of (rX1_look_6 hh _ _ _ _ ?_)
      exact ⟨fun z => absurd z z0, fun _ => ⟨rfl, rfl⟩⟩
    · refine rh1.of (rX32_look_0 hm _ _ _ ?_)
      rw [← hM0, m26, m4, m23]
      exact ⟨fun y => ⟨by omega, by omega⟩, fun y => ⟨by omega, by omega⟩, fun y _ => ⟨by omega, by omega⟩, fun q h => by have := W2 q h; exact ⟨by omega, by omega⟩, fun z => absurd (hr.mpr z) z0, fun _ => ⟨rfl, rfl⟩⟩
end Look
