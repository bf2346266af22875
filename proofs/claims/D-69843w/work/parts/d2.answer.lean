/-! ===== LAYER 2: readings: sign, answer ===== -/
section Answer
variable {wh wm : rhW}
theorem hs_rdR (hh : rh_hs wh) {r : Int} (h0 : 0 ≤ r) (h1 : r < 4) : rh_bl wh 4 (563 + 18 * r + 3) 320 ∧ rh_bl wh 4 (563 + 18 * r + 12) 80 ∧ rh_bl wh 4 (563 + 18 * r + 15) 480 := by
  have hc : (List.range 4).all (fun i => rh_btc 4 (566 + 18 * i) 320 0 635 && (rh_btc 4 (575 + 18 * i) 80 0 635 && rh_btc 4 (578 + 18 * i) 480 0 635)) = true := by decide +kernel
  have h2 := List.all_eq_true.mp hc r.toNat (by rw [List.mem_range]; omega)
  simp only [Bool.and_eq_true] at h2
  have a := rh_bl.of hh h2.1
  have b := rh_bl.of hh h2.2.1
  have c := rh_bl.of hh h2.2.2
  rw [show ((566 + 18 * r.toNat : Nat) : Int) = 563 + 18 * r + 3 by omega] at a
  rw [show ((575 + 18 * r.toNat : Nat) : Int) = 563 + 18 * r + 12 by omega] at b
  rw [show ((578 + 18 * r.toNat : Nat) : Int) = 563 + 18 * r + 15 by omega] at c
  exact ⟨a, b, c⟩
theorem rh2.wr {w w2 : rhW} {Y Y2 : rhY} {h h2 pc pc2 : Nat} {L L2 : rhL} {S1 S2 : List rhA} {M M2 : rhM} {x : Int} {P : Int → rhM → Int → rhM → Prop} (H : ∀ y, (rI x → y = x) → rh2 w Y h pc L ((0, y) :: S1) M w2 Y2 h2 pc2 L2 S2 M2 P) : rh2 w Y h pc L ((3, x) :: S1) M w2 Y2 h2 pc2 L2 S2 M2 P := by
  by_cases r : rI x
  · exact rh2.sl (eS.fx 0 rfl r rfl) (H x (fun _ => rfl))
  · obtain ⟨y, -, E⟩ := eS.wr (w := w) (Y := Y) (h := h) (pc := pc) (L := L) (S1 := S1) (M := M) (x := x)
    exact rh2.sl E (H y (fun z => absurd z r))
theorem op_sign (hh : rh_hs wh) (hm : rh_ms wm) {Mh Mm : rhM} (R : RdA Mh Mm) (x1 x2 x3 x4 : Int) : rC2 wh YX1_sign 3 [(2, 0), (0, x1), (0, x2), (0, x3), (0, x4)] Mh wm YX32_sign 3 [(2, 0), (0, x1), (0, x2), (0, x3), (0, x4)] Mm (fun r M' r2 M2' => r = r2 ∧ M' = Mh ∧ M2' = rh_set Mm 0 0 0) := by
  refine rC2.of (by decide) (LE0 rfl) (by decide) (LE0 rfl) ?_
  have en : ∀ c k, 0 < c → rh_set Mm 0 0 0 c k = Mm c k := fun c k h => rh_set_a (by omega)
  have at' := R.at x1 x2
  refine rh2.l (rX1_signq_0 hh _ _ _ _ _ ?_)
  refine ⟨⟨by omega, by omega⟩, fun _ => ⟨by omega, by omega⟩, fun _ => ⟨by omega, by omega⟩, fun z => R.ob z, fun c => ?_, fun c => ?_⟩
  · refine rh1.of (rX32_sign_0 hm _ _ _ _ _ ?_)
    rw [en 113 _ (by decide), en 114 _ (by decide)]
    exact ⟨fun _ => ⟨by omega, by omega⟩, fun _ => ⟨by omega, by omega⟩, fun z => R.om z, fun _ => ⟨rfl, rfl, rfl⟩, fun z => absurd (fun y => c (at'.mpr y)) z⟩
  · have c' := at'.mp (Classical.byContradiction c)
    obtain ⟨a1, a2⟩ := R x1 (by omega) (by omega)
    obtain ⟨b1, b2, b3⟩ := a2 c'.1.2
    obtain ⟨w1, w2, -, -⟩ := b3 x2 (by omega) (by omega)
    have hx := hs_rd hh (show 0 ≤ x1 by omega) (show x1 < 4 by omega)
    have hr := (hs_rdR hh (show 0 ≤ x1 by omega) (show x1 < 4 by omega)).1
    have MM : ∀ P : Int → rhM → Prop, (∀ v, ((0 ≤ x3 ∧ x3 ≤ Mm 121 (80 * x1 + x2) - 1) → (0 ≤ x4 ∧ x4 ≤ Mm 125 (4 * (80 * x1 + x2) + x3) - 1) → v = Mm 126 (12 * (4 * (80 * x1 + x2) + x3) + x4)) → (¬ ((0 ≤ x3 ∧ x3 ≤ Mm 121 (80 * x1 + x2) - 1) ∧ (0 ≤ x4 ∧ x4 ≤ Mm 125 (4 * (80 * x1 + x2) + x3) - 1)) → v = -1) → P v (rh_set Mm 0 0 0)) → rh1 wm YX32_sign 3 0 [(0, 2, 0), (1, 0, x1), (2, 0, x2), (3, 0, x3), (4, 0, x4)] [] Mm P := by
      intro P HP
      have e3 : (0 ≤ x3 ∧ x3 ≤ Mm 121 (80 * x1 + x2) - 1) → rh_if ((0 ≤ x3) ∧ (x3 < 4)) x3 0 = x3 := fun z => rh_if_t ⟨by omega, by omega⟩
      refine rh1.of (rX32_sign_0 hm _ _ _ _ _ ?_)
      rw [en 113 _ (by decide), en 114 _ (by decide), en 121 _ (by decide), en 125 _ (by decide), en 126 _ (by decide)]
      refine ⟨fun _ => ⟨by omega, by omega⟩, fun _ => ⟨by omega, by omega⟩, fun z => R.om z, fun z => absurd c' z, fun _ => ⟨⟨by omega, by omega⟩, ⟨by omega, by omega⟩, ⟨by omega, by omega⟩, fun z => by rw [e3 z]; exact ⟨by omega, by omega⟩, fun z => by rw [e3 z]; exact ⟨by omega, by omega⟩, fun z => by
        rw [e3 z]
        have := (w2 x3 (by omega) (by omega)).2.1
        exact ⟨by omega, by omega⟩, ?_⟩⟩
      intro v hv
      by_cases a : 0 ≤ x3 ∧ x3 ≤ Mm 121 (80 * x1 + x2) - 1
      · rw [e3 a] at hv
        have := (w2 x3 (by omega) (by omega)).2.1
        by_cases b : 0 ≤ x4 ∧ x4 ≤ Mm 125 (4 * (80 * x1 + x2) + x3) - 1
        · rw [rh_if_t ⟨a, b⟩] at hv
          rw [hv, rh_if_t (show (1 : Int) ≠ 0 by decide)]
          exact ⟨fun _ => ⟨by omega, by omega⟩, HP _ (fun _ _ => rfl) (fun z => absurd ⟨a, b⟩ z)⟩
        · rw [rh_if_f (fun u => b u.2)] at hv
          rw [hv, rh_if_f (show ¬ (0 : Int) ≠ 0 by decide)]
          exact ⟨fun z => absurd rfl z, HP _ (fun _ z => absurd z b) (fun _ => rfl)⟩
      · rw [rh_if_f (fun u => a u.1)] at hv
        rw [hv, rh_if_f (show ¬ (0 : Int) ≠ 0 by decide)]
        exact ⟨fun z => absurd rfl z, HP _ (fun z _ => absurd z a) (fun _ => rfl)⟩
    refine ⟨⟨by omega, by omega⟩, rh2.wr (fun y hy => ?_)⟩
    refine rh2.l (rX1_signq_25 hh _ _ _ _ _ _ hx ?_)
    rw [w1.1]
    refine ⟨⟨by omega, by omega⟩, ⟨by omega, by omega⟩, fun z => ?_, fun z => ?_, fun z => ?_, fun z => ?_⟩
    · have := hy ⟨by omega, by omega⟩
      exact ⟨by omega, by omega⟩
    · rw [hy ⟨by omega, by omega⟩, (w2 x3 (by omega) (by omega)).2.1.1]
      have := (w2 x3 (by omega) (by omega)).2.1.2
      exact ⟨by omega, by omega⟩
    · have e := hy ⟨by omega, by omega⟩
      obtain ⟨-, v1, v2⟩ := w2 x3 (by omega) (by omega)
      rw [e, v1.1] at z
      rw [e]
      refine rh2.sl (vX1_sign_79 hr (c_get hh hr Mh ⟨by omega, by omega⟩) (LE0 rfl)) ?_
      refine rh2.l (rX1_sign_82 hh _ _ ?_)
      refine MM _ (fun v h1 h2 => ⟨?_, rfl, rfl⟩)
      rw [h1 z.1 z.2, show 563 + 18 * x1 + 3 + 1 = 563 + 18 * x1 + 4 by omega]
      exact (v2 x4 (by omega) (by omega)).1
    · refine MM _ (fun v h1 h2 => ⟨(h2 (fun u => z ⟨u.1, ?_⟩)).symm, rfl, rfl⟩)
      have e := hy ⟨by omega, by omega⟩
      rw [e, (w2 x3 (by omega) (by omega)).2.1.1]
      exact u.2
/-- settled words and answers -/
def RdS (Mh Mm : rhM) (x k i : Int) : Prop := ((0 ≤ Mm 123 k ∧ Mm 123 k ≤ 2) ∧ 0 ≤ Mm 122 k) ∧ (Mm 123 k = 1 → Mh (x + 14) i = Mm 128 k ∧ (1 ≤ Mm 128 k ∧ Mm 128 k ≤ 12) ∧ ∀ t, 0 ≤ t → t < Mm 128 k → Mh (x + 13) (12 * i + t) = Mm 127 (12 * k + t) ∧ 33 ≤ Mm 127 (12 * k + t) ∧ Mm 127 (12 * k + t) ≤ 126) ∧ ∀ p, 0 ≤ p → p < 6 → (0 ≤ Mm 137 (6 * k + p) ∧ Mm 137 (6 * k + p) ≤ 12) ∧ ∀ t, 0 ≤ t → t < Mm 137 (6 * k + p) → Mh (x + 16) (12 * (6 * i + p) + t) = Mm 136 (12 * (6 * k + p) + t) ∧ 33 ≤ Mm 136 (12 * (6 * k + p) + t) ∧ Mm 136 (12 * (6 * k + p) + t) ≤ 126
def RdC (Mh Mm : rhM) : Prop := ∀ r, 0 ≤ r → r < 4 → Mm 113 r ≠ 0 → ∀ i, 0 ≤ i → i < Mm 114 r → RdS Mh Mm (563 + 18 * r) (80 * r + i) i
theorem RdA.fx {Mh Mm M' M2' : rhM} (R : RdA Mh Mm) (f : ∀ r n j, 0 ≤ r → r < 4 → 0 ≤ n → n ≤ 10 → M' (563 + 18 * r + n) j = Mh (563 + 18 * r + n) j) (g : ∀ c j, 113 ≤ c → c ≤ 135 → c ≠ 122 → c ≠ 123 → c ≠ 127 → c ≠ 128 → M2' c j = Mm c j) : RdA M' M2' := by
  intro r r0 r1
  have H := R r r0 r1
  have f0 : ∀ j, M' (563 + 18 * r) j = Mh (563 + 18 * r) j := fun j => by
    have := f r 0 j r0 r1 (by decide) (by decide)
    rwa [show 563 + 18 * r + 0 = 563 + 18 * r by omega] at this
  have f1 := fun j => f r 1 j r0 r1 (by decide) (by decide)
  have f2 := fun j => f r 2 j r0 r1 (by decide) (by decide)
  have f4 := fun j => f r 4 j r0 r1 (by decide) (by decide)
  have f5 := fun j => f r 5 j r0 r1 (by decide) (by decide)
  have f9 := fun j => f r 9 j r0 r1 (by decide) (by decide)
  have f10 := fun j => f r 10 j r0 r1 (by decide) (by decide)
  have g3 := fun j => g 113 j (by decide) (by decide) (by decide) (by decide) (by decide) (by decide)
  have g4 := fun j => g 114 j (by decide) (by decide) (by decide) (by decide) (by decide) (by decide)
  have g5 := fun j => g 121 j (by decide) (by decide) (by decide) (by decide) (by decide) (by decide)
  have g6 := fun j => g 124 j (by decide) (by decide) (by decide) (by decide) (by decide) (by decide)
  have g7 := fun j => g 125 j (by decide) (by decide) (by decide) (by decide) (by decide) (by decide)
  have g8 := fun j => g 126 j (by decide) (by decide) (by decide) (by decide) (by decide) (by decide)
  have g9 := fun j => g 129 j (by decide) (by decide) (by decide) (by decide) (by decide) (by decide)
  have g10 := fun j => g 130 j (by decide) (by decide) (by decide) (by decide) (by decide) (by decide)
  have g11 := fun j => g 131 j (by decide) (by decide) (by decide) (by decide) (by decide) (by decide)
  have g12 := fun j => g 132 j (by decide) (by decide) (by decide) (by decide) (by decide) (by decide)
  have g13 := fun j => g 133 j (by decide) (by decide) (by decide) (by decide) (by decide) (by decide)
  have g14 := fun j => g 134 j (by decide) (by decide) (by decide) (by decide) (by decide) (by decide)
  have g15 := fun j => g 135 j (by decide) (by decide) (by decide) (by decide) (by decide) (by decide)
  unfold RdR RdW at H ⊢
  simp only [f0, f1, f2, f4, f5, f9, f10, g3, g4, g5, g6, g7, g8, g9, g10, g11, g12, g13, g14, g15]
  exact H
theorem bl_sg {x m : Int} (hx : rh_bl wh 4 x m) : ∃ len : Nat, rh_ar wh (x + 1) .byte len ∧ (len : Int) = 12 * m ∧ len ≤ 2147483647 := by
  obtain ⟨len, h1, h2, h3⟩ := (hx.2 1 _ rfl).1
  have h4 : (len : Int) = ((12 : Nat) : Int) * m + ((0 : Nat) : Int) := h2
  exact ⟨len, h1, by omega, h3⟩
theorem c_copy (hh : rh_hs wh) {x m i y m' j : Int} (hx : rh_bl wh 4 x m) (hy : rh_bl wh 4 y m') (hi : 0 ≤ i ∧ i < m) (hj : 0 ≤ j ∧ j < m') (M : rhM) (hn : 0 ≤ M (y + 2) j ∧ M (y + 2) j ≤ 12) (ne : y + 2 ≠ x + 1) : eC wh YX19_copy 1 [(2, x), (0, i), (2, y), (0, j)] M 0 (rh_set (rh_cpy M (y + 1) (12 * j) (x + 1) (12 * i) 12) (x + 2) i (M (y + 2) j)) := by
  refine eC.of1 (rC1.of (by decide) (LE0 rfl) ?_)
  obtain ⟨n0, a1, a2, a3⟩ := bl_sg hy
  obtain ⟨n1, b1, b2, b3⟩ := bl_sg hx
  refine rh1.of (rX19_copy_0 hh _ _ _ _ _ _ _ hx hy ?_)
  refine rh1.s (vX19_copy_18 (ty := .byte) (tt := 1) (n0 := n0) (n1 := n1) rfl rfl rfl a1 b1 rfl rfl rfl (by omega) (by omega) (by omega) (by omega) (by omega) a3 b3 (LE0 rfl)) ?_
  refine rh1.of (rX19_copy_21 hh _ _ _ _ _ _ _ hx hy ?_)
  rw [rh_cpy_a ne]
  exact ⟨hj, hi, ⟨by omega, by omega⟩, rfl, rfl⟩
/-- two words of rows are the same -/
theorem c_ord0 (hh : rh_hs wh) {x m i y m' j : Int} (hx : rh_bl wh 4 x m) (hy : rh_bl wh 4 y m') (hi : 0 ≤ i ∧ i < m) (hj : 0 ≤ j ∧ j < m') (M : rhM) (ba : 0 ≤ M (x + 2) i ∧ M (x + 2) i ≤ 12) (bb : 0 ≤ M (y + 2) j ∧ M (y + 2) j ≤ 12) (rA : ∀ k, 0 ≤ k → k < M (x + 2) i → -128 ≤ M (x + 1) (12 * i + k) ∧ M (x + 1) (12 * i + k) ≤ 127) (rB : ∀ k, 0 ≤ k → k < M (y + 2) j → -128 ≤ M (y + 1) (12 * j + k) ∧ M (y + 1) (12 * j + k) ≤ 127) :
    ∃ v, eC wh YX19_order 1 [(2, x), (0, i), (2, y), (0, j)] M v M ∧ (v = 0 ↔ M (x + 2) i = M (y + 2) j ∧ ∀ t, 0 ≤ t → t < M (x + 2) i → M (x + 1) (12 * i + t) = M (y + 1) (12 * j + t)) := by
  refine ⟨_, c_ord hh hx hy hi hj M rfl rfl ba bb rA rB, ?_⟩
  rw [owd_z]
  refine ⟨fun h => ?_, fun h => ?_⟩
  · have e1 : M (x + 2) i = M (y + 2) j := by have := h.1; omega
    refine ⟨e1, fun t t0 t1 => h.2 t t0 ?_⟩
    rw [rh_if_f (show ¬ M (y + 2) j < M (x + 2) i by omega)]
    omega
  · obtain ⟨e1, e2⟩ := h
    refine ⟨by omega, fun t t0 t1 => e2 t t0 ?_⟩
    rw [rh_if_f (show ¬ M (y + 2) j < M (x + 2) i by omega)] at t1
    omega
def oTw (M : rhM) (n : Int) : Prop := (0 < n ∧ n ≤ 12) ∧ ∀ t, 0 ≤ t → t < n → 33 ≤ M 1 t ∧ M 1 t ≤ 126
theorem c_isTapeWord (hm : rh_ms wm) {n : Int} (M : rhM) (h : M 0 2 = n) (hn : n ≤ 4096) : eC wm YX32_isTapeWord 1 [(2, 0)] M (rh_if (oTw M n) 1 0) M := by
  refine eC.of1 (rC1.of (by decide) (LE0 rfl) ?_)
  have z : ∀ t : Int, ¬ oTw M n → rh1 wm YX32_isTapeWord 1 24 [(0, 2, 0), (1, 0, 0), (2, 0, t)] [] M (fun r M' => r = rh_if (oTw M n) 1 0 ∧ M' = M) := fun t ht => by
    refine rh1.of (rX32_isTapeWord_24 hm _ _ _ ?_)
    exact ⟨fun z => absurd rfl z.2, fun _ => ⟨⟨by omega, by omega⟩, by rw [rh_if_f ht], rfl⟩⟩
  have w : ∀ (u : Nat) (t : Int), t + u = n → 0 ≤ t → (0 < n ∧ n ≤ 12) → (∀ s, 0 ≤ s → s < t → 33 ≤ M 1 s ∧ M 1 s ≤ 126) → rh1 wm YX32_isTapeWord 1 24 [(0, 2, 0), (1, 0, 1), (2, 0, t)] [] M (fun r M' => r = rh_if (oTw M n) 1 0 ∧ M' = M) := by
    intro u
    induction u with
    | zero =>
      intro t ht t0 hb hs
      refine rh1.of (rX32_isTapeWord_24 hm _ _ _ ?_)
      rw [h]
      exact ⟨fun z => by omega, fun _ => ⟨⟨by omega, by omega⟩, by rw [rh_if_t ⟨hb, fun s s0 s1 => hs s s0 (by omega)⟩], rfl⟩⟩
    | succ u ih =>
      intro t ht t0 hb hs
      refine rh1.of (rX32_isTapeWord_24 hm _ _ _ ?_)
      rw [h]
      refine ⟨fun _ => ⟨⟨by omega, by omega⟩, ?_⟩, fun z => absurd ⟨by omega, by decide⟩ z⟩
      intro v hv
      by_cases q : 33 ≤ M 1 t ∧ M 1 t ≤ 126
      · rw [rh_if_t q] at hv
        rw [hv]
        refine ⟨⟨by omega, by omega⟩, ih (t + 1) (by omega) (by omega) hb (fun s s0 s1 => ?_)⟩
        by_cases e : s = t
        · rw [e]; exact q
        · exact hs s s0 (by omega)
      · rw [rh_if_f q] at hv
        rw [hv]
        exact ⟨⟨by omega, by omega⟩, z (t + 1) (fun k => q (k.2 t t0 (by omega)))⟩
  refine rh1.of (rX32_isTapeWord_0 hm _ ?_)
  rw [h]
  intro v hv
  by_cases q : 0 < n ∧ n ≤ 12
  · rw [rh_if_t q] at hv
    rw [hv]
    exact w n.toNat 0 (by omega) (by omega) q (fun s s0 s1 => by omega)
  · rw [rh_if_f q] at hv
    rw [hv]
    exact z 0 (fun k => q k.1)
def SAm (M : rhM) (k q p : Int) : Prop := M 137 (6 * k + q) = M 137 (6 * k + p) ∧ ∀ t, 0 ≤ t → t < M 137 (6 * k + q) → M 136 (12 * (6 * k + q) + t) = M 136 (12 * (6 * k + p) + t)
theorem c_sameAnswer (hm : rh_ms wm) {k q p : Int} (hk : 0 ≤ k ∧ k < 320) (hq : 0 ≤ q ∧ q < 6) (hp : 0 ≤ p ∧ p < 6) (M : rhM) (hn : 0 ≤ M 137 (6 * k + q) ∧ M 137 (6 * k + q) ≤ 12) : eC wm YX32_sameAnswer 0 [(2, 0), (0, k), (0, q), (0, p)] M (rh_if (SAm M k q p) 1 0) M := by
  refine eC.of1 (rC1.of (by decide) (LE0 rfl) ?_)
  obtain ⟨n, en⟩ : ∃ n, M 137 (6 * k + q) = n := ⟨_, rfl⟩
  rw [en] at hn
  have z : ∀ t : Int, ¬ SAm M k q p → rh1 wm YX32_sameAnswer 0 35 [(0, 2, 0), (1, 0, k), (2, 0, q), (3, 0, p), (4, 0, 0), (5, 0, t)] [] M (fun r M' => r = rh_if (SAm M k q p) 1 0 ∧ M' = M) := fun t ht => by
    refine rh1.of (rX32_sameAnswer_35 hm _ _ _ _ _ _ ?_)
    exact ⟨⟨by omega, by omega⟩, fun z => absurd rfl z.2, fun _ => ⟨⟨by omega, by omega⟩, by rw [rh_if_f ht], rfl⟩⟩
  have w : ∀ (u : Nat) (t : Int), t + u = n → 0 ≤ t → M 137 (6 * k + q) = M 137 (6 * k + p) → (∀ s, 0 ≤ s → s < t → M 136 (12 * (6 * k + q) + s) = M 136 (12 * (6 * k + p) + s)) → rh1 wm YX32_sameAnswer 0 35 [(0, 2, 0), (1, 0, k), (2, 0, q), (3, 0, p), (4, 0, 1), (5, 0, t)] [] M (fun r M' => r = rh_if (SAm M k q p) 1 0 ∧ M' = M) := by
    intro u
    induction u with
    | zero =>
      intro t ht t0 hb hs
      refine rh1.of (rX32_sameAnswer_35 hm _ _ _ _ _ _ ?_)
      refine ⟨⟨by omega, by omega⟩, fun z => by omega, fun _ => ⟨⟨by omega, by omega⟩, ?_, rfl⟩⟩
      rw [rh_if_t ⟨hb, fun s s0 s1 => hs s s0 (by omega)⟩]
    | succ u ih =>
      intro t ht t0 hb hs
      refine rh1.of (rX32_sameAnswer_35 hm _ _ _ _ _ _ ?_)
      refine ⟨⟨by omega, by omega⟩, fun _ => ⟨⟨by omega, by omega⟩, ⟨by omega, by omega⟩, ?_⟩, fun z => absurd ⟨by omega, by decide⟩ z⟩
      intro v hv
      by_cases g : M 136 (12 * (6 * k + q) + t) = M 136 (12 * (6 * k + p) + t)
      · rw [rh_if_t g] at hv
        rw [hv]
        refine ⟨⟨by omega, by omega⟩, ih (t + 1) (by omega) (by omega) hb (fun s s0 s1 => ?_)⟩
        by_cases e : s = t
        · rw [e]; exact g
        · exact hs s s0 (by omega)
      · rw [rh_if_f g] at hv
        rw [hv]
        exact ⟨⟨by omega, by omega⟩, z (t + 1) (fun k => g (k.2 t t0 (by omega)))⟩
  refine rh1.of (rX32_sameAnswer_0 hm _ _ _ _ ?_)
  refine ⟨⟨by omega, by omega⟩, ⟨by omega, by omega⟩, ?_⟩
  intro v hv
  by_cases g : M 137 (6 * k + q) = M 137 (6 * k + p)
  · rw [rh_if_t g] at hv
    rw [hv]
    exact w n.toNat 0 (by omega) (by omega) g (fun s s0 s1 => by omega)
  · rw [rh_if_f g] at hv
    rw [hv]
    exact z 0 (fun k => g k.1)
theorem rh_set_e {M : rhM} {a i v : Int} (h : M a i = v) : rh_set M a i v = M := by
  funext c j
  by_cases e : c = a
  · by_cases e2 : j = i
    · rw [e, e2, rh_set_s, h]
    · rw [rh_set_j e2]
  · rw [rh_set_a e]
theorem rh_set_2 {M : rhM} {a i v u : Int} : rh_set (rh_set M a i v) a i u = rh_set M a i u := by
  funext c j
  by_cases e : c = a
  · by_cases e2 : j = i
    · rw [e, e2, rh_set_s, rh_set_s]
    · rw [rh_set_j e2, rh_set_j e2, rh_set_j e2]
  · rw [rh_set_a e, rh_set_a e, rh_set_a e]
/-- the model stores the answer's text -/
theorem m_ans (hm : rh_ms wm) {k p n : Int} (hk : 0 ≤ k ∧ k < 320) (hp : 0 ≤ p ∧ p < 6) (hn : 0 ≤ n ∧ n ≤ 12) : ∀ (u : Nat) (t : Int) (M : rhM), t + u = n → 0 ≤ t → M 0 2 = n → ∃ M', eS wm YX32_answer 3 100 [(0, 2, 0), (3, 0, p), (4, 0, k), (5, 0, t)] [] M 146 [(0, 2, 0), (3, 0, p), (4, 0, k), (5, 0, 0), (6, 0, 0)] [] M' ∧ frx (fun c j => c = 136 ∧ 12 * (6 * k + p) ≤ j ∧ j < 12 * (6 * k + p) + 12) M M' ∧ (∀ s, t ≤ s → s < n → M' 136 (12 * (6 * k + p) + s) = M 1 s) ∧ ∀ s, 0 ≤ s → s < t → M' 136 (12 * (6 * k + p) + s) = M 136 (12 * (6 * k + p) + s) := by
  intro u
  induction u with
  | zero =>
    intro t M ht t0 h
    refine ⟨M, eS.of (fun P HP => ?_), frx.rf, fun s s0 s1 => by omega, fun s _ _ => rfl⟩
    refine rh1.of (rX32_answer_100 hm _ _ _ _ ?_)
    rw [h]
    exact ⟨fun z => by omega, fun _ => HP⟩
  | succ u ih =>
    intro t M ht t0 h
    obtain ⟨M', E, F, v1, v2⟩ := ih (t + 1) (rh_set M 136 (12 * (6 * k + p) + t) (M 1 t)) (by omega) (by omega) (by rw [rh_set_a (by decide)]; exact h)
    refine ⟨M', eS.of (fun P HP => ?_), (frx.rf.st (by omega)).tr F, fun s s0 s1 => ?_, fun s s0 s1 => ?_⟩
    · refine rh1.of (rX32_answer_100 hm _ _ _ _ ?_)
      rw [h]
      exact ⟨fun _ => ⟨⟨by omega, by omega⟩, ⟨by omega, by omega⟩, ⟨by omega, by omega⟩, rh1.s E HP⟩, fun z => by omega⟩
    · by_cases e : s = t
      · rw [e, v2 t (by omega) (by omega), rh_set_s]
      · rw [v1 s (by omega) (by omega), rh_set_a (by decide)]
    · rw [v2 s (by omega) (by omega), rh_set_j (by omega)]
/-- the model stores the settled word -/
theorem m_setl (hm : rh_ms wm) {k n : Int} (hk : 0 ≤ k ∧ k < 320) (hn : 0 ≤ n ∧ n ≤ 12) : ∀ (u : Nat) (t : Int) (M : rhM), t + u = n → 0 ≤ t → M 0 2 = n → ∃ M', eS wm YX32_answer 3 262 [(0, 2, 0), (4, 0, k), (6, 0, t)] [] M 262 [(0, 2, 0), (4, 0, k), (6, 0, n)] [] M' ∧ frx (fun c j => c = 127 ∧ 12 * k ≤ j ∧ j < 12 * k + 12) M M' ∧ (∀ s, t ≤ s → s < n → M' 127 (12 * k + s) = M 1 s) ∧ ∀ s, 0 ≤ s → s < t → M' 127 (12 * k + s) = M 127 (12 * k + s) := by
  intro u
  induction u with
  | zero =>
    intro t M ht t0 h
    have e : t = n := by omega
    rw [e]
    exact ⟨M, eS.rf, frx.rf, fun s s0 s1 => by omega, fun s _ _ => rfl⟩
  | succ u ih =>
    intro t M ht t0 h
    obtain ⟨M', E, F, v1, v2⟩ := ih (t + 1) (rh_set M 127 (12 * k + t) (M 1 t)) (by omega) (by omega) (by rw [rh_set_a (by decide)]; exact h)
    refine ⟨M', eS.of (fun P HP => ?_), (frx.rf.st (by omega)).tr F, fun s s0 s1 => ?_, fun s s0 s1 => ?_⟩
    · refine rh1.of (rX32_answer_262 hm _ _ _ ?_)
      rw [h]
      exact ⟨fun _ => ⟨⟨by omega, by omega⟩, ⟨by omega, by omega⟩, ⟨by omega, by omega⟩, rh1.s E HP⟩, fun z => by omega⟩
    · by_cases e : s = t
      · rw [e, v2 t (by omega) (by omega), rh_set_s]
      · rw [v1 s (by omega) (by omega), rh_set_a (by decide)]
    · rw [v2 s (by omega) (by omega), rh_set_j (by omega)]
theorem rh_cpy_v {M : rhM} {r sp r1 dp m j : Int} (h : dp ≤ j ∧ j < dp + m) : rh_cpy M r sp r1 dp m r1 j = M r (sp + (j - dp)) := by
  unfold rh_cpy
  rw [if_pos rfl, if_pos h]
theorem rh_cpy_o {M : rhM} {r sp r1 dp m a j : Int} (h : ¬ (dp ≤ j ∧ j < dp + m)) : rh_cpy M r sp r1 dp m a j = M a j := by
  unfold rh_cpy
  by_cases e : a = r1
  · rw [if_pos e, if_neg h]
  · rw [if_neg e]
theorem or_b {b : Int} (hb : b = 0 ∨ b = 1) {p : Prop} : rh_or b (rh_if p 1 0) = rh_if p 1 b := by
  by_cases q : p
  · rw [rh_if_t q, rh_if_t q]; rcases hb with h | h <;> rw [h] <;> decide
  · rw [rh_if_f q, rh_if_f q]; rcases hb with h | h <;> rw [h] <;> decide
/-- the answers told, side by side -/
theorem t_told (hh : rh_hs wh) (hm : rh_ms wm) {A B : rhM} {r i p n : Int} (hr : 0 ≤ r ∧ r < 4) (hi : 0 ≤ i ∧ i < 80) (hp : 0 ≤ p ∧ p < 6) (hn : 1 ≤ n ∧ n ≤ 12) (a69 : A 69 0 = n)
    (a68 : ∀ t, 0 ≤ t → t < n → A 68 t = B 136 (12 * (6 * (80 * r + i) + p) + t) ∧ 33 ≤ A 68 t ∧ A 68 t ≤ 126) (b7 : B 137 (6 * (80 * r + i) + p) = n) (a17 : A (563 + 18 * r + 17) (6 * i + p) = 0)
    (sz : ∀ q, 0 ≤ q → q < 6 → q ≠ p → A (563 + 18 * r + 17) (6 * i + q) = B 137 (6 * (80 * r + i) + q) ∧ (0 ≤ B 137 (6 * (80 * r + i) + q) ∧ B 137 (6 * (80 * r + i) + q) ≤ 12) ∧ ∀ t, 0 ≤ t → t < B 137 (6 * (80 * r + i) + q) → A (563 + 18 * r + 16) (12 * (6 * i + q) + t) = B 136 (12 * (6 * (80 * r + i) + q) + t) ∧ 33 ≤ B 136 (12 * (6 * (80 * r + i) + q) + t) ∧ B 136 (12 * (6 * (80 * r + i) + q) + t) ≤ 126) :
    ∀ (u : Nat) (q th b : Int), q + u = 6 → 0 ≤ q → (b = 0 ∨ b = 1) → (1 ≤ th ∧ th ≤ q + 1) → ∃ T b', eS wh YX31_answer 2 17 [(0, 2, 563 + 18 * r), (1, 0, i), (3, 2, 67), (4, 0, 6 * i + p), (5, 0, th), (6, 0, b), (7, 0, q)] [] A 17 [(0, 2, 563 + 18 * r), (1, 0, i), (3, 2, 67), (4, 0, 6 * i + p), (5, 0, T), (6, 0, b'), (7, 0, 6)] [] A ∧ eS wm YX32_answer 3 146 [(0, 2, 0), (3, 0, p), (4, 0, 80 * r + i), (5, 0, rh_if (q ≤ p) (th - 1) th), (6, 0, q)] [] (rh_set B 123 (80 * r + i) b) 146 [(0, 2, 0), (3, 0, p), (4, 0, 80 * r + i), (5, 0, T), (6, 0, 6)] [] (rh_set B 123 (80 * r + i) b') ∧ (b' = 0 ∨ b' = 1) ∧ 1 ≤ T ∧ T ≤ 7 := by
  have hx := hs_rd hh hr.1 hr.2
  have hA := (hs_rdR hh hr.1 hr.2).2.2
  have m7 : ∀ b j, rh_set B 123 (80 * r + i) b 137 j = B 137 j := fun b j => rh_set_a (by decide)
  have m6 : ∀ b j, rh_set B 123 (80 * r + i) b 136 j = B 136 j := fun b j => rh_set_a (by decide)
  intro u
  induction u with
  | zero =>
    intro q th b hq q0 hb ht
    have e : q = 6 := by omega
    subst e
    rw [rh_if_f (show ¬ (6 : Int) ≤ p by omega)]
    exact ⟨th, b, eS.rf, eS.rf, hb, by omega, by omega⟩
  | succ u ih =>
    intro q th b hq q0 hb ht
    by_cases e : q = p
    · obtain ⟨T, b', E1, E2, E3⟩ := ih (q + 1) th b (by omega) (by omega) hb ⟨by omega, by omega⟩
      refine ⟨T, b', eS.of (fun P HP => ?_), eS.of (fun P HP => ?_), E3⟩
      · refine rh1.of (rX31_answer_17 hh _ _ _ _ _ _ _ _ _ hx (hs_rw67 hh) ?_)
        rw [e, a17]
        rw [e] at E1
        exact ⟨fun _ => ⟨⟨by omega, by omega⟩, ⟨by omega, by omega⟩, fun z => by omega, fun _ => ⟨⟨by omega, by omega⟩, rh1.s E1 HP⟩⟩, fun z => by omega⟩
      · refine rh1.of (rX32_answer_146 hm _ _ _ _ _ ?_)
        rw [m7, e, b7]
        refine ⟨fun _ => ⟨⟨by omega, by omega⟩, ?_⟩, fun z => by omega⟩
        rw [rh_if_t (show p ≤ p by omega), rh_if_t (show 0 < n by omega)]
        rw [e, rh_if_f (show ¬ p + 1 ≤ p by omega)] at E2
        intro v hv
        refine ⟨⟨by omega, by omega⟩, fun z => absurd rfl z, fun z => absurd rfl z.1, fun _ => ⟨⟨by omega, by omega⟩, ?_⟩⟩
        rw [hv, show th - 1 + 1 = th by omega]
        exact rh1.s E2 HP
    · obtain ⟨s1, s2, s3⟩ := sz q (by omega) (by omega) e
      have le : (q + 1 ≤ p) = (q ≤ p) := by
        apply propext
        omega
      by_cases s : 0 < B 137 (6 * (80 * r + i) + q)
      · obtain ⟨v, K, hv⟩ := c_ord0 hh (x := 563 + 18 * r + 15) (i := 6 * i + q) (j := 0) hA (hs_rw67 hh) ⟨by omega, by omega⟩ ⟨by omega, by omega⟩ A (by rw [show 563 + 18 * r + 15 + 2 = 563 + 18 * r + 17 by omega, s1]; exact s2) (by show 0 ≤ A 69 0 ∧ A 69 0 ≤ 12; rw [a69]; exact ⟨by omega, by omega⟩) (fun t t0 t1 => by
          rw [show 563 + 18 * r + 15 + 2 = 563 + 18 * r + 17 by omega, s1] at t1
          rw [show 563 + 18 * r + 15 + 1 = 563 + 18 * r + 16 by omega, (s3 t t0 t1).1]
          have := (s3 t t0 t1).2
          exact ⟨by omega, by omega⟩) (fun t t0 t1 => by
          have t2 : t < n := by rw [← a69]; exact t1
          rw [show 12 * 0 + t = t by omega]
          show -128 ≤ A 68 t ∧ A 68 t ≤ 127
          have := (a68 t t0 t2).2
          exact ⟨by omega, by omega⟩)
        have sm : v = 0 ↔ SAm (rh_set B 123 (80 * r + i) b) (80 * r + i) q p := by
          rw [hv]
          unfold SAm
          rw [m7, m7, b7, show 563 + 18 * r + 15 + 2 = 563 + 18 * r + 17 by omega, show 563 + 18 * r + 15 + 1 = 563 + 18 * r + 16 by omega, s1, show A (67 + 2) 0 = n from a69]
          refine and_congr_right (fun en => ?_)
          refine ⟨fun h t t0 t1 => ?_, fun h t t0 t1 => ?_⟩
          · rw [m6, m6, ← (s3 t t0 t1).1, ← (a68 t t0 (by omega)).1, h t t0 t1, show 12 * 0 + t = t by omega]
            rfl
          · have := h t t0 t1
            rw [m6, m6, ← (s3 t t0 t1).1, ← (a68 t t0 (by omega)).1] at this
            rw [this, show 12 * 0 + t = t by omega]
            rfl
        have Km := c_sameAnswer hm (k := 80 * r + i) (q := q) (p := p) ⟨by omega, by omega⟩ ⟨by omega, by omega⟩ ⟨by omega, by omega⟩ (rh_set B 123 (80 * r + i) b) (by rw [m7]; exact s2)
        obtain ⟨T, b', E1, E2, E3⟩ := ih (q + 1) (th + 1) (rh_if (v = 0) 1 b) (by omega) (by omega) (by
          by_cases g : v = 0
          · rw [rh_if_t g]; exact .inr rfl
          · rw [rh_if_f g]; exact hb) ⟨by omega, by omega⟩
        refine ⟨T, b', eS.of (fun P HP => ?_), eS.of (fun P HP => ?_), E3⟩
        · refine rh1.of (rX31_answer_17 hh _ _ _ _ _ _ _ _ _ hx (hs_rw67 hh) ?_)
          rw [s1]
          refine ⟨fun _ => ⟨⟨by omega, by omega⟩, ⟨by omega, by omega⟩, fun _ => ⟨⟨by omega, by omega⟩, ?_⟩, fun z => absurd s z⟩, fun z => by omega⟩
          refine rh1.s (vX31_answer_59 K (LE0 rfl)) ?_
          refine rh1.of (rX31_answer_62 hh _ _ _ _ _ _ _ _ _ _ hx (hs_rw67 hh) ?_)
          intro y hy
          rw [or_b hb] at hy
          rw [hy]
          exact ⟨⟨by omega, by omega⟩, rh1.s E1 HP⟩
        · refine rh1.of (rX32_answer_146 hm _ _ _ _ _ ?_)
          rw [m7]
          refine ⟨fun _ => ⟨⟨by omega, by omega⟩, ?_⟩, fun z => by omega⟩
          rw [rh_if_t s]
          rw [le] at E2
          intro y hy
          have ey : y = rh_if (q ≤ p) (th + 1 - 1) (th + 1) := by
            rw [hy]
            by_cases g : q ≤ p
            · rw [rh_if_t g, rh_if_t g]; omega
            · rw [rh_if_f g, rh_if_f g]
          have yb : 0 ≤ y ∧ y ≤ 10 := by
            rw [ey]
            by_cases g : q ≤ p
            · rw [rh_if_t g]; omega
            · rw [rh_if_f g]; omega
          rw [← ey] at E2
          refine ⟨⟨by omega, by omega⟩, fun _ => ⟨by omega, by omega⟩, fun _ => ?_, fun z => absurd ⟨e, s⟩ z⟩
          refine rh1.s (vX32_answer_207 hm Km (LE0 rfl)) ?_
          refine rh1.of (rX32_answer_210 hm _ _ _ _ _ _ ?_)
          by_cases g : v = 0
          · rw [rh_if_t g] at E2
            rw [rh_if_t (sm.mp g), rh_set_2]
            exact ⟨fun _ => ⟨⟨by omega, by omega⟩, ⟨by omega, by omega⟩, rh1.s E2 HP⟩, fun z => absurd (show (1 : Int) ≠ 0 by decide) z⟩
          · rw [rh_if_f g] at E2
            rw [rh_if_f (fun z => g (sm.mpr z))]
            exact ⟨fun z => absurd rfl z, fun _ => ⟨⟨by omega, by omega⟩, rh1.s E2 HP⟩⟩
      · obtain ⟨T, b', E1, E2, E3⟩ := ih (q + 1) th b (by omega) (by omega) hb ⟨by omega, by omega⟩
        rw [le] at E2
        refine ⟨T, b', eS.of (fun P HP => ?_), eS.of (fun P HP => ?_), E3⟩
        · refine rh1.of (rX31_answer_17 hh _ _ _ _ _ _ _ _ _ hx (hs_rw67 hh) ?_)
          rw [s1]
          exact ⟨fun _ => ⟨⟨by omega, by omega⟩, ⟨by omega, by omega⟩, fun z => absurd z s, fun _ => ⟨⟨by omega, by omega⟩, rh1.s E1 HP⟩⟩, fun z => by omega⟩
        · refine rh1.of (rX32_answer_146 hm _ _ _ _ _ ?_)
          rw [m7]
          refine ⟨fun _ => ⟨⟨by omega, by omega⟩, ?_⟩, fun z => by omega⟩
          rw [rh_if_f s]
          intro y hy
          have ey : y = rh_if (q ≤ p) (th - 1) th := by omega
          have yb : 0 ≤ y ∧ y ≤ 10 := by
            rw [ey]
            by_cases g : q ≤ p
            · rw [rh_if_t g]; omega
            · rw [rh_if_f g]; omega
          rw [← ey] at E2
          exact ⟨⟨by omega, by omega⟩, fun _ => ⟨by omega, by omega⟩, fun z => absurd z.2 s, fun _ => ⟨⟨by omega, by omega⟩, rh1.s E2 HP⟩⟩
/-- what an answer changes -/
def Fah (r i p c j : Int) : Prop := (c = 563 + 18 * r + 11 ∧ j = i) ∨ (c = 563 + 18 * r + 13 ∧ 12 * i ≤ j ∧ j < 12 * i + 12) ∨ (c = 563 + 18 * r + 14 ∧ j = i) ∨ (c = 563 + 18 * r + 16 ∧ 12 * (6 * i + p) ≤ j ∧ j < 12 * (6 * i + p) + 12) ∨ (c = 563 + 18 * r + 17 ∧ j = 6 * i + p)
def Fam (k p c j : Int) : Prop := (c = 122 ∧ j = k) ∨ (c = 123 ∧ j = k) ∨ (c = 127 ∧ 12 * k ≤ j ∧ j < 12 * k + 12) ∨ (c = 128 ∧ j = k) ∨ (c = 136 ∧ 12 * (6 * k + p) ≤ j ∧ j < 12 * (6 * k + p) + 12) ∨ (c = 137 ∧ j = 6 * k + p)
theorem h_answer (hh : rh_hs wh) {A : rhM} {r i p n T b : Int} (hr : 0 ≤ r ∧ r < 4) (hi : 0 ≤ i ∧ i < 80) (hp : 0 ≤ p ∧ p < 6) (hn : 1 ≤ n ∧ n ≤ 12) (a69 : A 69 0 = n) (hb : b = 0 ∨ b = 1)
    (E : eS wh YX31_answer 2 17 [(0, 2, 563 + 18 * r), (1, 0, i), (3, 2, 67), (4, 0, 6 * i + p), (5, 0, 1), (6, 0, 0), (7, 0, 0)] [] A 17 [(0, 2, 563 + 18 * r), (1, 0, i), (3, 2, 67), (4, 0, 6 * i + p), (5, 0, T), (6, 0, b), (7, 0, 6)] [] A) :
    ∃ v M', v = rh_if (b ≠ 0) 1 (rh_if (T = 3) 2 0) ∧ eC wh YX31_answer 2 [(2, 563 + 18 * r), (0, i), (0, p), (2, 67)] A v M' ∧ frx (Fah r i p) A M' ∧ M' (563 + 18 * r + 11) i = v ∧ (M' (563 + 18 * r + 17) (6 * i + p) = n ∧ ∀ t, 0 ≤ t → t < 12 → M' (563 + 18 * r + 16) (12 * (6 * i + p) + t) = A 68 t) ∧ (b ≠ 0 → M' (563 + 18 * r + 14) i = n ∧ ∀ t, 0 ≤ t → t < 12 → M' (563 + 18 * r + 13) (12 * i + t) = A 68 t) := by
  have hx := hs_rd hh hr.1 hr.2
  obtain ⟨-, hS, hA⟩ := hs_rdR hh hr.1 hr.2
  obtain ⟨v, hv⟩ : ∃ v, v = rh_if (b ≠ 0) (1 : Int) (rh_if (T = 3) (2 : Int) 0) := ⟨_, rfl⟩
  have K1 := c_copy hh (i := 6 * i + p) (j := 0) hA (hs_rw67 hh) ⟨by omega, by omega⟩ ⟨by omega, by omega⟩ A (by show 0 ≤ A 69 0 ∧ A 69 0 ≤ 12; rw [a69]; exact ⟨by omega, by omega⟩) (by omega)
  obtain ⟨A1, hA1⟩ : ∃ A1, A1 = rh_set (rh_cpy A (67 + 1) (12 * 0) (563 + 18 * r + 15 + 1) (12 * (6 * i + p)) 12) (563 + 18 * r + 15 + 2) (6 * i + p) (A (67 + 2) 0) := ⟨_, rfl⟩
  rw [← hA1] at K1
  have f1 : frx (fun c j => (c = 563 + 18 * r + 16 ∧ 12 * (6 * i + p) ≤ j ∧ j < 12 * (6 * i + p) + 12) ∨ (c = 563 + 18 * r + 17 ∧ j = 6 * i + p)) A A1 := by
    rw [hA1]
    exact (frx.rf.cpy (fun j j0 j1 => by omega)).st (by omega)
  have v7 : A1 (563 + 18 * r + 17) (6 * i + p) = n := by
    rw [hA1, show 563 + 18 * r + 15 + 2 = 563 + 18 * r + 17 by omega, rh_set_s]
    exact a69
  have v6 : ∀ t, 0 ≤ t → t < 12 → A1 (563 + 18 * r + 16) (12 * (6 * i + p) + t) = A 68 t := fun t t0 t1 => by
    rw [hA1, rh_set_a (by omega), show 563 + 18 * r + 15 + 1 = 563 + 18 * r + 16 by omega, rh_cpy_v ⟨by omega, by omega⟩, show 12 * 0 + (12 * (6 * i + p) + t - 12 * (6 * i + p)) = t by omega]
    rfl
  have start : ∀ P : Int → rhM → Prop, rh1 wh YX31_answer 2 90 [(0, 2, 563 + 18 * r), (1, 0, i), (3, 2, 67), (5, 0, T), (6, 0, b)] [] A1 P → rh1 wh YX31_answer 2 0 [(0, 2, 563 + 18 * r), (1, 0, i), (2, 0, p), (3, 2, 67)] [] A P := fun P HP => by
    refine rh1.of (rX31_answer_0 hh _ _ _ _ _ _ hx (hs_rw67 hh) ?_)
    refine ⟨⟨by omega, by omega⟩, rh1.s E ?_⟩
    refine rh1.of (rX31_answer_17 hh _ _ _ _ _ _ _ _ _ hx (hs_rw67 hh) ?_)
    refine ⟨fun z => by omega, fun _ => ?_⟩
    exact rh1.s (vX31_answer_87 hA K1 (LE0 rfl)) HP
  by_cases hb0 : b ≠ 0
  · have K2 := c_copy hh (i := i) (j := 0) hS (hs_rw67 hh) ⟨by omega, by omega⟩ ⟨by omega, by omega⟩ A1 (by show 0 ≤ A1 69 0 ∧ A1 69 0 ≤ 12; rw [f1 69 0 (by omega), a69]; exact ⟨by omega, by omega⟩) (by omega)
    obtain ⟨A2, hA2⟩ : ∃ A2, A2 = rh_set (rh_cpy A1 (67 + 1) (12 * 0) (563 + 18 * r + 12 + 1) (12 * i) 12) (563 + 18 * r + 12 + 2) i (A1 (67 + 2) 0) := ⟨_, rfl⟩
    rw [← hA2] at K2
    have f2 : frx (fun c j => (c = 563 + 18 * r + 13 ∧ 12 * i ≤ j ∧ j < 12 * i + 12) ∨ (c = 563 + 18 * r + 14 ∧ j = i)) A1 A2 := by
      rw [hA2]
      exact (frx.rf.cpy (fun j j0 j1 => by omega)).st (by omega)
    refine ⟨v, rh_set A2 (563 + 18 * r + 11) i v, hv, eC.of1 (rC1.of (by decide) (LE0 rfl) (start _ ?_)), ?_, rh_set_s _ _ _ _, ⟨?_, fun t t0 t1 => ?_⟩, fun _ => ⟨?_, fun t t0 t1 => ?_⟩⟩
    · refine rh1.of (rX31_answer_90 hh _ _ _ _ _ _ _ hx (hs_rw67 hh) ?_)
      refine ⟨fun _ => ?_, fun z => absurd hb0 z⟩
      refine rh1.s (vX31_answer_102 hS K2 (LE0 rfl)) ?_
      refine rh1.of (rX31_answer_105 hh _ _ _ _ _ hx ?_)
      intro y hy
      rw [← hv] at hy
      rw [hy]
      exact ⟨hi, hi, rh_set_s _ _ _ _, rfl⟩
    · exact ((f1.w (fun c j h => by unfold Fah; omega)).tr (f2.w (fun c j h => by unfold Fah; omega))).st (by unfold Fah; omega)
    · rw [rh_set_a (by omega), f2 _ _ (by omega)]; exact v7
    · rw [rh_set_a (by omega), f2 _ _ (by omega)]; exact v6 t t0 t1
    · rw [rh_set_a (by omega), hA2, show 563 + 18 * r + 12 + 2 = 563 + 18 * r + 14 by omega, rh_set_s]
      show A1 69 0 = n
      rw [f1 69 0 (by omega)]
      exact a69
    · rw [rh_set_a (by omega), hA2, rh_set_a (by omega), show 563 + 18 * r + 12 + 1 = 563 + 18 * r + 13 by omega, rh_cpy_v ⟨by omega, by omega⟩, show 12 * 0 + (12 * i + t - 12 * i) = t by omega]
      exact f1 68 t (by omega)
  · refine ⟨v, rh_set A1 (563 + 18 * r + 11) i v, hv, eC.of1 (rC1.of (by decide) (LE0 rfl) (start _ ?_)), ?_, rh_set_s _ _ _ _, ⟨?_, fun t t0 t1 => ?_⟩, fun z => absurd z hb0⟩
    · refine rh1.of (rX31_answer_90 hh _ _ _ _ _ _ _ hx (hs_rw67 hh) ?_)
      refine ⟨fun z => absurd z hb0, fun _ => ?_⟩
      intro y hy
      rw [← hv] at hy
      rw [hy]
      exact ⟨hi, hi, rh_set_s _ _ _ _, rfl⟩
    · exact (f1.w (fun c j h => by unfold Fah; omega)).st (by unfold Fah; omega)
    · rw [rh_set_a (by omega)]; exact v7
    · rw [rh_set_a (by omega)]; exact v6 t t0 t1
/-- the readings after an answer -/
theorem Rd_ans {Mh Mm M' M2' : rhM} {r i p n v : Int} (hr : 0 ≤ r ∧ r < 4) (hw : Mm 113 r ≠ 0) (hi : 0 ≤ i ∧ i < Mm 114 r) (hp : 0 ≤ p ∧ p < 6) (hn : 1 ≤ n ∧ n ≤ 12) (R : RdA Mh Mm) (Q : RdB Mh Mm) (C : RdC Mh Mm)
    (f : ∀ c j, 563 ≤ c → ¬ Fah r i p c j → M' c j = Mh c j) (g : ∀ c j, 113 ≤ c → c ≤ 137 → ¬ Fam (80 * r + i) p c j → M2' c j = Mm c j) (v0 : Mm 123 (80 * r + i) = 0) (vb : 0 ≤ v ∧ v ≤ 2) (e1 : M' (563 + 18 * r + 11) i = v) (e2 : M2' 123 (80 * r + i) = v) (e3 : M2' 122 (80 * r + i) = rh_if (v = 1) 255 (Mm 122 (80 * r + i)))
    (e4 : M' (563 + 18 * r + 17) (6 * i + p) = n) (e5 : M2' 137 (6 * (80 * r + i) + p) = n) (tx : ∀ t, 0 ≤ t → t < n → M' (563 + 18 * r + 16) (12 * (6 * i + p) + t) = M2' 136 (12 * (6 * (80 * r + i) + p) + t) ∧ 33 ≤ M2' 136 (12 * (6 * (80 * r + i) + p) + t) ∧ M2' 136 (12 * (6 * (80 * r + i) + p) + t) ≤ 126)
    (sl : v = 1 → M' (563 + 18 * r + 14) i = n ∧ M2' 128 (80 * r + i) = n ∧ ∀ t, 0 ≤ t → t < n → M' (563 + 18 * r + 13) (12 * i + t) = M2' 127 (12 * (80 * r + i) + t) ∧ 33 ≤ M2' 127 (12 * (80 * r + i) + t) ∧ M2' 127 (12 * (80 * r + i) + t) ≤ 126) :
    RdA M' M2' ∧ RdB M' M2' ∧ RdC M' M2' := by
  have i80 : i < 80 := by have := ((R r hr.1 hr.2).2 hw).2.1; omega
  refine ⟨R.fx (fun r' n' j a1 a2 a3 a4 => f _ _ (by omega) (by unfold Fah; omega)) (fun c j c1 c2 n1 n2 n3 n4 => g c j c1 (by omega) (by unfold Fam; omega)), fun r' a1 a2 a3 i' b1 b2 => ?_, fun r' a1 a2 a3 i' b1 b2 => ?_⟩
  · rw [g 113 _ (by decide) (by decide) (by unfold Fam; omega)] at a3
    rw [g 114 _ (by decide) (by decide) (by unfold Fam; omega)] at b2
    have B80 : i' < 80 := by have := ((R r' a1 a2).2 a3).2.1; omega
    obtain ⟨⟨y0, y1, y2, y3⟩, y4, y5, y6, y7, y8⟩ := Q r' a1 a2 a3 i' b1 b2
    have g' : ∀ c j, 115 ≤ c → c ≤ 121 → M2' c j = Mm c j := fun c j c1 c2 => g c j (by omega) (by omega) (by unfold Fam; omega)
    have h4 : ∀ j, M2' 124 j = Mm 124 j := fun j => g 124 j (by decide) (by decide) (by unfold Fam; omega)
    have f' : ∀ m j, 6 ≤ m → m ≤ 8 → M' (563 + 18 * r' + m) j = Mh (563 + 18 * r' + m) j := fun m j m1 m2 => f _ _ (by omega) (by unfold Fah; omega)
    unfold RdX
    rw [f' 6 _ (by decide) (by decide), f' 6 _ (by decide) (by decide), f' 6 _ (by decide) (by decide), f' 6 _ (by decide) (by decide), f' 7 _ (by decide) (by decide), f' 8 _ (by decide) (by decide), g' 115 _ (by decide) (by decide), g' 116 _ (by decide) (by decide), g' 117 _ (by decide) (by decide), g' 118 _ (by decide) (by decide), g' 119 _ (by decide) (by decide), g' 120 _ (by decide) (by decide), g' 121 _ (by decide) (by decide), h4, h4]
    by_cases e : r' = r ∧ i' = i
    · obtain ⟨rfl, rfl⟩ := e
      refine ⟨⟨y0, y1, y2, y3⟩, y4, y5, by rw [e1, e2], ?_, fun q q0 q1 => ?_⟩
      · rw [e2, e3, y7, v0]
        by_cases z : v = 1
        · rw [rh_if_t z, rh_if_t (.inl z)]
        · rw [rh_if_f z]
          by_cases z1 : Mm 121 (80 * r' + i') = 1
          · rw [rh_if_t (.inr z1), rh_if_t (.inr z1)]
          · rw [rh_if_f (show ¬ ((0 : Int) = 1 ∨ Mm 121 (80 * r' + i') = 1) by omega), rh_if_f (show ¬ (v = 1 ∨ Mm 121 (80 * r' + i') = 1) by omega)]
      · by_cases z : q = p
        · rw [z, e4, e5]
        · rw [f _ _ (by omega) (by unfold Fah; omega), g 137 _ (by decide) (by decide) (by unfold Fam; omega)]
          exact y8 q q0 q1
    · have ne : 80 * r' + i' ≠ 80 * r + i := by omega
      have ne2 : ¬ (r' = r ∧ i' = i) := e
      refine ⟨⟨y0, y1, y2, y3⟩, y4, y5, ?_, ?_, fun q q0 q1 => ?_⟩
      · rw [f _ _ (by omega) (by unfold Fah; omega), g 123 _ (by decide) (by decide) (by unfold Fam; omega)]; exact y6
      · rw [g 122 _ (by decide) (by decide) (by unfold Fam; omega), g 123 _ (by decide) (by decide) (by unfold Fam; omega)]; exact y7
      · rw [f _ _ (by omega) (by unfold Fah; omega), g 137 _ (by decide) (by decide) (by unfold Fam; omega)]; exact y8 q q0 q1
  · rw [g 113 _ (by decide) (by decide) (by unfold Fam; omega)] at a3
    rw [g 114 _ (by decide) (by decide) (by unfold Fam; omega)] at b2
    have B80 : i' < 80 := by have := ((R r' a1 a2).2 a3).2.1; omega
    obtain ⟨y0, y1, y2⟩ := C r' a1 a2 a3 i' b1 b2
    by_cases e : r' = r ∧ i' = i
    · obtain ⟨rfl, rfl⟩ := e
      refine ⟨⟨by rw [e2]; exact vb, ?_⟩, fun z => ?_, fun q q0 q1 => ?_⟩
      · rw [e3]
        by_cases z : v = 1
        · rw [rh_if_t z]; decide
        · rw [rh_if_f z]; exact y0.2
      · rw [e2] at z
        obtain ⟨s1, s2, s3⟩ := sl z
        rw [s1, s2]
        exact ⟨rfl, hn, s3⟩
      · by_cases z : q = p
        · rw [z, e5]
          exact ⟨⟨by omega, by omega⟩, tx⟩
        · rw [g 137 _ (by decide) (by decide) (by unfold Fam; omega)]
          refine ⟨(y2 q q0 q1).1, fun t t0 t1 => ?_⟩
          have := (y2 q q0 q1).1
          rw [f _ _ (by omega) (by unfold Fah; omega), g 136 _ (by decide) (by decide) (by unfold Fam; omega)]
          exact (y2 q q0 q1).2 t t0 t1
    · have ne : 80 * r' + i' ≠ 80 * r + i := by omega
      have ne2 : ¬ (r' = r ∧ i' = i) := e
      refine ⟨by rw [g 123 _ (by decide) (by decide) (by unfold Fam; omega), g 122 _ (by decide) (by decide) (by unfold Fam; omega)]; exact y0, fun z => ?_, fun q q0 q1 => ?_⟩
      · rw [g 123 _ (by decide) (by decide) (by unfold Fam; omega)] at z
        obtain ⟨s1, s2, s3⟩ := y1 z
        rw [f _ _ (by omega) (by unfold Fah; omega), g 128 _ (by decide) (by decide) (by unfold Fam; omega)]
        refine ⟨s1, s2, fun t t0 t1 => ?_⟩
        rw [f _ _ (by omega) (by unfold Fah; omega), g 127 _ (by decide) (by decide) (by unfold Fam; omega)]
        exact s3 t t0 t1
      · rw [g 137 _ (by decide) (by decide) (by unfold Fam; omega)]
        obtain ⟨s1, s2⟩ := y2 q q0 q1
        refine ⟨s1, fun t t0 t1 => ?_⟩
        rw [f _ _ (by omega) (by unfold Fah; omega), g 136 _ (by decide) (by decide) (by unfold Fam; omega)]
        exact s2 t t0 t1
theorem by_s {x c : Int} (h : rh_and x 255 = c) (hx : -128 ≤ x ∧ x ≤ 127) : ((33 ≤ x ∧ x ≤ 126) ↔ (33 ≤ c ∧ c ≤ 126)) ∧ (33 ≤ c ∧ c ≤ 126 → x = c) := by
  rw [by_e hx] at h
  split at h <;> omega
theorem Rd.fx {Mh Mm M' M2' : rhM} (R : RdA Mh Mm) (Q : RdB Mh Mm) (C : RdC Mh Mm) (f : ∀ c j, 563 ≤ c → c ≤ 634 → M' c j = Mh c j) (g : ∀ c j, 113 ≤ c → c ≤ 137 → M2' c j = Mm c j) : RdA M' M2' ∧ RdB M' M2' ∧ RdC M' M2' := by
  have g' : ∀ c, 113 ≤ c → c ≤ 137 → M2' c = Mm c := fun c c0 c1 => funext (fun j => g c j c0 c1)
  have f' : ∀ c, 563 ≤ c → c ≤ 634 → M' c = Mh c := fun c c0 c1 => funext (fun j => f c j c0 c1)
  refine ⟨R.fx (fun r n j r0 r1 n0 n1 => f _ _ (by omega) (by omega)) (fun c j c0 c1 _ _ _ _ => g c j c0 (by omega)), fun r r0 r1 a i i0 i1 => ?_, fun r r0 r1 a i i0 i1 => ?_⟩
  · rw [g' 113 (by decide) (by decide)] at a
    rw [g' 114 (by decide) (by decide)] at i1
    have H := Q r r0 r1 a i i0 i1
    unfold RdX at H ⊢
    simp only [f' (563 + 18 * r + 6) (by omega) (by omega), f' (563 + 18 * r + 7) (by omega) (by omega), f' (563 + 18 * r + 8) (by omega) (by omega), f' (563 + 18 * r + 11) (by omega) (by omega), f' (563 + 18 * r + 17) (by omega) (by omega), g' 115 (by decide) (by decide), g' 116 (by decide) (by decide), g' 117 (by decide) (by decide), g' 118 (by decide) (by decide), g' 119 (by decide) (by decide), g' 120 (by decide) (by decide), g' 121 (by decide) (by decide), g' 122 (by decide) (by decide), g' 123 (by decide) (by decide), g' 124 (by decide) (by decide), g' 137 (by decide) (by decide)]
    exact H
  · rw [g' 113 (by decide) (by decide)] at a
    rw [g' 114 (by decide) (by decide)] at i1
    have H := C r r0 r1 a i i0 i1
    unfold RdS at H ⊢
    simp only [f' (563 + 18 * r + 13) (by omega) (by omega), f' (563 + 18 * r + 14) (by omega) (by omega), f' (563 + 18 * r + 16) (by omega) (by omega), g' 122 (by decide) (by decide), g' 123 (by decide) (by decide), g' 127 (by decide) (by decide), g' 128 (by decide) (by decide), g' 136 (by decide) (by decide), g' 137 (by decide) (by decide)]
    exact H
theorem op_answer (hh : rh_hs wh) (hm : rh_ms wm) {Mh Mm : rhM} (T : Rtp Mh Mm) (R : RdA Mh Mm) (Q : RdB Mh Mm) (C : RdC Mh Mm) (x1 x2 x3 : Int) : rC2 wh YX1_answer 3 [(2, 0), (0, x1), (0, x2), (0, x3)] Mh wm YX32_answer 3 [(2, 0), (0, x1), (0, x2), (0, x3)] Mm (fun r M' r2 M2' => r = r2 ∧ Rtp M' M2' ∧ (RdA M' M2' ∧ RdB M' M2' ∧ RdC M' M2') ∧ frx (fun c j => Ftp c j ∨ c = 68 ∨ c = 69 ∨ (574 ≤ c ∧ c ≤ 634)) Mh M' ∧ frx (fun c j => (c = 0 ∧ (j = 0 ∨ j = 2)) ∨ (122 ≤ c ∧ c ≤ 137)) Mm M2') := by
  refine rC2.of (by decide) (LE0 rfl) (by decide) (LE0 rfl) ?_
  have TT := T
  obtain ⟨t1, t2, t3, t4⟩ := T
  obtain ⟨n, hn⟩ : ∃ n, Mm 0 2 = n := ⟨_, rfl⟩
  rw [hn] at t1 t2 t3 t4
  have en : ∀ c k, 0 < c → rh_set Mm 0 0 0 c k = Mm c k := fun c k h => rh_set_a (by omega)
  have at' := R.at x1 x2
  have T0 : Rtp Mh (rh_set Mm 0 0 0) := by
    unfold Rtp Rby
    rw [rh_set_j (by decide), hn]
    refine ⟨t1, t2, t3, fun k k0 k1 => ?_⟩
    rw [en 1 k (by decide)]
    exact t4 k k0 k1
  have keep0 := Rd.fx (M' := Mh) (M2' := rh_set Mm 0 0 0) R Q C (fun c j _ _ => rfl) (fun c j c0 _ => en c j (by omega))
  have g0 : frx (fun c j => (c = 0 ∧ (j = 0 ∨ j = 2)) ∨ (122 ≤ c ∧ c ≤ 137)) Mm (rh_set Mm 0 0 0) := frx.rf.st (by omega)
  refine rh2.l (rX1_answer_0 hh _ _ _ _ ?_)
  refine ⟨⟨by omega, by omega⟩, fun _ => ⟨by omega, by omega⟩, fun _ => ⟨by omega, by omega⟩, fun z => R.ob z, fun c => ?_, fun c => ⟨fun d => ?_, fun d => ?_⟩⟩
  · refine rh1.of (rX32_answer_0 hm _ _ _ _ ?_)
    rw [en 113 _ (by decide), en 114 _ (by decide)]
    exact ⟨fun _ => ⟨by omega, by omega⟩, fun _ => ⟨by omega, by omega⟩, fun z => R.om z, fun _ => ⟨rfl, T0, keep0, frx.rf, g0⟩, fun z => absurd (fun y => c (at'.mpr y)) z⟩
  · have c' := at'.mp (Classical.byContradiction c)
    refine rh1.of (rX32_answer_0 hm _ _ _ _ ?_)
    rw [en 113 _ (by decide), en 114 _ (by decide)]
    exact ⟨fun _ => ⟨by omega, by omega⟩, fun _ => ⟨by omega, by omega⟩, fun z => R.om z, fun z => absurd c' z, fun _ => ⟨fun _ => ⟨rfl, T0, keep0, frx.rf, g0⟩, fun z => absurd d z⟩⟩
  have c' := at'.mp (Classical.byContradiction c)
  have d' : 0 ≤ x3 ∧ x3 ≤ 5 := Classical.byContradiction d
  obtain ⟨a1, a2⟩ := R x1 (by omega) (by omega)
  obtain ⟨b1, b2, b3⟩ := a2 c'.1.2
  have X := Q x1 (by omega) (by omega) c'.1.2 x2 (by omega) (by omega)
  have S := C x1 (by omega) (by omega) c'.1.2 x2 (by omega) (by omega)
  have hx := hs_rd hh (show 0 ≤ x1 by omega) (show x1 < 4 by omega)
  obtain ⟨M0, hM0⟩ : ∃ M0, M0 = rh_set Mm 0 0 0 := ⟨_, rfl⟩
  rw [← hM0] at en T0 g0
  have e02 : M0 0 2 = n := by rw [hM0, rh_set_j (by decide)]; exact hn
  have Ktw := c_isTapeWord hm M0 e02 t3
  have MS : ∀ P : Int → rhM → Prop, rh1 wm YX32_answer 3 31 [(0, 2, 0), (1, 0, x1), (2, 0, x2), (3, 0, x3)] [(0, rh_if (oTw M0 n) 1 0)] M0 P → rh1 wm YX32_answer 3 0 [(0, 2, 0), (1, 0, x1), (2, 0, x2), (3, 0, x3)] [] Mm P := fun P HP => by
    refine rh1.of (rX32_answer_0 hm _ _ _ _ ?_)
    rw [← hM0, en 113 _ (by decide), en 114 _ (by decide)]
    exact ⟨fun _ => ⟨by omega, by omega⟩, fun _ => ⟨by omega, by omega⟩, fun z => R.om z, fun z => absurd c' z, fun _ => ⟨fun z => absurd z d, fun _ => rh1.s (vX32_answer_28 hm Ktw (LE0 rfl)) HP⟩⟩
  have MB : ¬ oTw M0 n → ∀ P : Int → rhM → Prop, P (-102) (rh_set M0 0 2 0) → rh1 wm YX32_answer 3 0 [(0, 2, 0), (1, 0, x1), (2, 0, x2), (3, 0, x3)] [] Mm P := fun ok P HP => MS P (by
    rw [rh_if_f ok]
    refine rh1.of (rX32_answer_31 hm _ _ _ _ _ ?_)
    exact ⟨fun _ => HP, fun z => absurd rfl z⟩)
  have PB : ∀ (v : Int) (Mx : rhM), frx (fun c j => Ftp c j ∨ c = 68 ∨ c = 69) Mh Mx → Mx 1 2 = 0 → v = v ∧ Rtp Mx (rh_set M0 0 2 0) ∧ (RdA Mx (rh_set M0 0 2 0) ∧ RdB Mx (rh_set M0 0 2 0) ∧ RdC Mx (rh_set M0 0 2 0)) ∧ frx (fun c j => Ftp c j ∨ c = 68 ∨ c = 69 ∨ (574 ≤ c ∧ c ≤ 634)) Mh Mx ∧ frx (fun c j => (c = 0 ∧ (j = 0 ∨ j = 2)) ∨ (122 ≤ c ∧ c ≤ 137)) Mm (rh_set M0 0 2 0) := fun v Mx F h => ⟨rfl, Rtp.use (Mh := Mh) (Mm := Mm) h (rh_set_s _ _ _ _), Rd.fx R Q C (fun c j c0 _ => F c j (by unfold Ftp; omega)) (fun c j c0 _ => by rw [rh_set_a (by omega)]; exact en c j (by omega)), F.w (fun c j h => by unfold Ftp at h ⊢; omega), g0.st (by omega)⟩
  by_cases c12 : 12 < n
  · refine rh2.sl (vX1_answer_28 hh ((c_takeAsked hh Mh t1 ⟨by omega, by omega⟩).1 c12) (LE0 rfl)) ?_
    refine rh2.l (rX1_answer_31 hh _ _ _ _ _ ?_)
    intro y hy
    rw [rh_if_f (fun z => z.1 rfl)] at hy
    rw [hy]
    refine rh2.l (rX1_answer_59 hh _ _ _ _ _ _ ?_)
    refine ⟨fun z => absurd rfl z.1, fun _ => ⟨fun _ => ?_, fun z => absurd rfl z⟩⟩
    exact MB (fun k => by have := k.1; omega) _ (PB _ _ ((frx.rf.st (by unfold Ftp; omega)).st (by unfold Ftp; omega)) (rh_set_s _ _ _ _))
  have hn12 : n ≤ 12 := (by omega)
  refine rh2.sl (vX1_answer_28 hh ((c_takeAsked hh Mh t1 ⟨by omega, by omega⟩).2 hn12) (LE0 rfl)) ?_
  obtain ⟨A, hA⟩ : ∃ A, A = m_ask (rh_set (rh_set Mh 1 3 0) 1 2 0) 0 n := ⟨_, rfl⟩
  have fA : frx (fun c j => Ftp c j ∨ c = 68 ∨ c = 69) Mh A := by
    rw [hA]
    exact (((frx.rf.st (by unfold Ftp; omega)).st (by unfold Ftp; omega)).cpy (fun j _ _ => (by omega))).st (by omega)
  have a69 : A 69 0 = n := by rw [hA]; exact rh_set_s _ _ _ _
  have a12 : A 1 2 = 0 := by
    rw [hA]
    unfold m_ask
    rw [rh_set_a (by decide), rh_cpy_a (by decide), rh_set_s]
  have a68 : ∀ t, 0 ≤ t → t < n → A 68 t = Mh 2 t := fun t t0 t1 => by
    rw [hA]
    unfold m_ask rh_cpy
    rw [rh_set_a (by decide), if_pos rfl, if_pos (by omega), rh_set_a (by decide), rh_set_a (by decide)]
    congr 1
    omega
  have good : ∀ t, 0 ≤ t → t < n → ((33 ≤ A 68 t ∧ A 68 t ≤ 126) ↔ (33 ≤ M0 1 t ∧ M0 1 t ≤ 126)) ∧ (33 ≤ M0 1 t ∧ M0 1 t ≤ 126 → A 68 t = M0 1 t) := fun t t0 t1 => by
    rw [a68 t t0 t1, en 1 t (by decide)]
    exact by_s (t4 t t0 t1).1 (t4 t t0 t1).2.2
  have Kg := fun t (t0 : 0 ≤ t) (t1 : t < n) => c_get hh (i := 0) (k := t) (hs_rw67 hh) A (show 0 ≤ 12 * 0 + t ∧ 12 * 0 + t < 12 * 1 by omega)
  rw [← hA]
  refine rh2.l (rX1_answer_31 hh _ _ _ _ _ ?_)
  intro y hy
  rw [a69] at hy
  by_cases n0 : 0 < n
  case neg =>
    rw [rh_if_f (fun z => n0 z.2)] at hy
    rw [hy]
    refine rh2.l (rX1_answer_59 hh _ _ _ _ _ _ ?_)
    refine ⟨fun z => absurd rfl z.1, fun _ => ⟨fun _ => ?_, fun z => absurd rfl z⟩⟩
    exact MB (fun k => by have := k.1; omega) _ (PB _ _ fA a12)
  rw [rh_if_t ⟨by decide, n0⟩] at hy
  rw [hy]
  by_cases ok : oTw M0 n
  case neg =>
    have key : ∀ (u : Nat) (t : Int), t + u = n → 0 ≤ t → (∀ s, 0 ≤ s → s < t → 33 ≤ M0 1 s ∧ M0 1 s ≤ 126) → rh2 wh YX1_answer 3 59 [(0, 2, 0), (1, 0, x1), (2, 0, x2), (3, 0, x3), (4, 0, 1), (5, 0, t)] [] A wm YX32_answer 3 0 [(0, 2, 0), (1, 0, x1), (2, 0, x2), (3, 0, x3)] [] Mm (fun r M' r2 M2' => r = r2 ∧ Rtp M' M2' ∧ (RdA M' M2' ∧ RdB M' M2' ∧ RdC M' M2') ∧ frx (fun c j => Ftp c j ∨ c = 68 ∨ c = 69 ∨ (574 ≤ c ∧ c ≤ 634)) Mh M' ∧ frx (fun c j => (c = 0 ∧ (j = 0 ∨ j = 2)) ∨ (122 ≤ c ∧ c ≤ 137)) Mm M2') := by
      intro u
      induction u with
      | zero =>
        intro t ht t0 hs
        exact absurd ⟨⟨n0, hn12⟩, fun s s0 s1 => hs s s0 (by omega)⟩ ok
      | succ u ih =>
        intro t ht t0 hs
        refine rh2.l (rX1_answer_59 hh _ _ _ _ _ _ ?_)
        rw [a69]
        refine ⟨fun _ => ?_, fun z => absurd ⟨by decide, by omega⟩ z⟩
        refine rh2.sl (vX1_answer_91 (hs_rw67 hh) (Kg t t0 (by omega)) (LE0 rfl)) ?_
        refine rh2.l (rX1_answer_94 hh _ _ _ _ _ _ ?_)
        rw [show 12 * 0 + t = t by omega, show A (67 + 1) t = A 68 t from rfl]
        intro y hy
        by_cases q : 33 ≤ A 68 t ∧ A 68 t ≤ 126
        · rw [rh_if_t q] at hy
          rw [hy]
          refine ⟨⟨by omega, by omega⟩, ih (t + 1) (by omega) (by omega) (fun s s0 s1 => ?_)⟩
          by_cases e : s = t
          · rw [e]; exact (good t t0 (by omega)).1.mp q
          · exact hs s s0 (by omega)
        · rw [rh_if_f q] at hy
          rw [hy]
          refine ⟨⟨by omega, by omega⟩, ?_⟩
          refine rh2.l (rX1_answer_59 hh _ _ _ _ _ _ ?_)
          refine ⟨fun z => absurd rfl z.1, fun _ => ⟨fun _ => ?_, fun z => absurd rfl z⟩⟩
          exact MB ok _ (PB _ _ fA a12)
    exact key n.toNat 0 (by omega) (by omega) (fun s s0 s1 => by omega)
  have path : ∀ (u : Nat) (t : Int), t + u = n → 0 ≤ t → eS wh YX1_answer 3 59 [(0, 2, 0), (1, 0, x1), (2, 0, x2), (3, 0, x3), (4, 0, 1), (5, 0, t)] [] A 59 [(0, 2, 0), (1, 0, x1), (2, 0, x2), (3, 0, x3), (4, 0, 1), (5, 0, n)] [] A := by
    intro u
    induction u with
    | zero =>
      intro t ht t0
      have e : t = n := by omega
      rw [e]
      exact eS.rf
    | succ u ih =>
      intro t ht t0
      refine eS.of (fun P HP => ?_)
      refine rh1.of (rX1_answer_59 hh _ _ _ _ _ _ ?_)
      rw [a69]
      refine ⟨fun _ => ?_, fun z => absurd ⟨by decide, by omega⟩ z⟩
      refine rh1.s (vX1_answer_91 (hs_rw67 hh) (Kg t t0 (by omega)) (LE0 rfl)) ?_
      refine rh1.of (rX1_answer_94 hh _ _ _ _ _ _ ?_)
      rw [show 12 * 0 + t = t by omega, show A (67 + 1) t = A 68 t from rfl]
      intro y hy
      rw [rh_if_t ((good t t0 (by omega)).1.mpr (ok.2 t t0 (by omega)))] at hy
      rw [hy]
      exact ⟨⟨by omega, by omega⟩, rh1.s (ih (t + 1) (by omega) (by omega)) HP⟩
  refine rh2.sl (path n.toNat 0 (by omega) (by omega)) ?_
  obtain ⟨z1, z2, z3, y6, y7, y8⟩ := X
  obtain ⟨s0, s1, s2⟩ := S
  have u11 : A (563 + 18 * x1 + 11) x2 = Mm 123 (80 * x1 + x2) := by rw [fA _ _ (by unfold Ftp; omega)]; exact y6
  have u17 : ∀ p, 0 ≤ p → p < 6 → A (563 + 18 * x1 + 17) (6 * x2 + p) = Mm 137 (6 * (80 * x1 + x2) + p) := fun p p0 p1 => by rw [fA _ _ (by unfold Ftp; omega)]; exact y8 p p0 p1
  refine rh2.l (rX1_answer_59 hh _ _ _ _ _ _ ?_)
  rw [a69, u11, u17 x3 (by omega) (by omega)]
  refine ⟨fun z => by omega, fun _ => ⟨fun z => by omega, fun _ => ⟨⟨by omega, by omega⟩, ⟨by omega, by omega⟩, fun _ => ⟨by omega, by omega⟩, fun q => ?_, fun q => ?_⟩⟩⟩
  · refine MS _ ?_
    rw [rh_if_t ok]
    refine rh1.of (rX32_answer_31 hm _ _ _ _ _ ?_)
    rw [en 123 _ (by decide), en 137 _ (by decide)]
    exact ⟨fun z => by omega, fun _ => ⟨⟨by omega, by omega⟩, ⟨by omega, by omega⟩, fun _ => ⟨by omega, by omega⟩, fun _ => PB _ _ fA a12, fun z => absurd q z⟩⟩
  have q3 : Mm 123 (80 * x1 + x2) = 0 := Classical.byContradiction (fun z => q (.inl z))
  have q7 : Mm 137 (6 * (80 * x1 + x2) + x3) = 0 := by
    have := (s2 x3 (by omega) (by omega)).1
    have : ¬ 0 < Mm 137 (6 * (80 * x1 + x2) + x3) := fun z => q (.inr z)
    omega
  obtain ⟨B, EB, FB, vB, -⟩ := m_ans hm (k := 80 * x1 + x2) (p := x3) (n := n) ⟨by omega, by omega⟩ ⟨by omega, by omega⟩ ⟨by omega, by omega⟩ n.toNat 0 (rh_set M0 137 (6 * (80 * x1 + x2) + x3) n) (by omega) (by omega) (by rw [rh_set_a (by decide)]; exact e02)
  have gB : frx (Fam (80 * x1 + x2) x3) M0 B := (frx.rf.st (by unfold Fam; omega)).tr (FB.w (fun c j h => by unfold Fam; omega))
  have B7 : B 137 (6 * (80 * x1 + x2) + x3) = n := by rw [FB _ _ (by omega), rh_set_s]
  have Bt : ∀ t, 0 ≤ t → t < n → B 136 (12 * (6 * (80 * x1 + x2) + x3) + t) = A 68 t ∧ 33 ≤ A 68 t ∧ A 68 t ≤ 126 := fun t t0 t1 => by
    have o := ok.2 t t0 t1
    have e := (good t t0 t1).2 o
    rw [vB t t0 t1, rh_set_a (by decide), e]
    exact ⟨rfl, o⟩
  have B3 : B 123 (80 * x1 + x2) = 0 := by
    rw [FB _ _ (by omega), rh_set_a (by decide), en 123 _ (by decide)]
    exact q3
  obtain ⟨Th, b, E1, E2, hb, hT⟩ := t_told hh hm (A := A) (B := B) (r := x1) (i := x2) (p := x3) (n := n) ⟨by omega, by omega⟩ ⟨by omega, by omega⟩ ⟨by omega, by omega⟩ ⟨by omega, by omega⟩ a69 (fun t t0 t1 => ⟨(Bt t t0 t1).1.symm, (Bt t t0 t1).2⟩) B7 (by rw [u17 x3 (by omega) (by omega)]; exact q7) (fun p p0 p1 ne => by
    obtain ⟨w1, w2⟩ := s2 p p0 p1
    have eB : B 137 (6 * (80 * x1 + x2) + p) = Mm 137 (6 * (80 * x1 + x2) + p) := by rw [gB _ _ (by unfold Fam; omega)]; exact en 137 _ (by decide)
    rw [eB, u17 p p0 p1]
    refine ⟨rfl, w1, fun t t0 t1 => ?_⟩
    rw [fA _ _ (by unfold Ftp; omega), gB _ _ (by unfold Fam; omega), en 136 _ (by decide)]
    exact w2 t t0 t1) 6 0 1 0 (by decide) (by decide) (.inl rfl) ⟨by omega, by omega⟩
  rw [rh_if_t (show 0 ≤ x3 by omega), rh_set_e B3] at E2
  obtain ⟨v, M', hv, Kh, F', k1, ⟨k2, k3⟩, k4⟩ := h_answer hh (A := A) (r := x1) (i := x2) (p := x3) (n := n) ⟨by omega, by omega⟩ ⟨by omega, by omega⟩ ⟨by omega, by omega⟩ ⟨by omega, by omega⟩ a69 hb E1
  have fM : ∀ c j, 563 ≤ c → ¬ Fah x1 x2 x3 c j → M' c j = Mh c j := fun c j c0 hf => by rw [F' c j hf]; exact fA c j (by unfold Ftp; omega)
  have fM2 : frx (fun c j => Ftp c j ∨ c = 68 ∨ c = 69 ∨ (574 ≤ c ∧ c ≤ 634)) Mh M' := (fA.w (fun c j h => by unfold Ftp at h ⊢; omega)).tr (F'.w (fun c j h => by unfold Fah at h; omega))
  have m12 : M' 1 2 = 0 := by rw [F' 1 2 (by unfold Fah; omega)]; exact a12
  refine rh2.sl (vX1_answer_163 hx Kh (LE0 rfl)) ?_
  refine rh2.l (rX1_answer_166 hh _ _ ?_)
  refine MS _ ?_
  rw [rh_if_t ok]
  refine rh1.of (rX32_answer_31 hm _ _ _ _ _ ?_)
  rw [en 123 _ (by decide), en 137 _ (by decide), e02]
  refine ⟨fun z => by omega, fun _ => ⟨⟨by omega, by omega⟩, ⟨by omega, by omega⟩, fun _ => ⟨by omega, by omega⟩, fun z => absurd z q, fun _ => ⟨⟨by omega, by omega⟩, ?_⟩⟩⟩
  refine rh1.s EB (rh1.s E2 ?_)
  obtain ⟨W, hW⟩ : ∃ W, W = rh_set B 123 (80 * x1 + x2) b := ⟨_, rfl⟩
  have gW : frx (Fam (80 * x1 + x2) x3) M0 W := by rw [hW]; exact gB.st (by unfold Fam; omega)
  have W3 : W 123 (80 * x1 + x2) = b := by rw [hW]; exact rh_set_s _ _ _ _
  have W7 : W 137 (6 * (80 * x1 + x2) + x3) = n := by rw [hW, rh_set_a (by decide)]; exact B7
  have Wt : ∀ t, 0 ≤ t → t < n → W 136 (12 * (6 * (80 * x1 + x2) + x3) + t) = A 68 t := fun t t0 t1 => by rw [hW, rh_set_a (by decide)]; exact (Bt t t0 t1).1
  have W2 : W 0 2 = n := by rw [gW 0 2 (by unfold Fam; omega)]; exact e02
  rw [← hW]
  have FIN : ∀ M2 : rhM, frx (Fam (80 * x1 + x2) x3) M0 M2 → M2 123 (80 * x1 + x2) = v → M2 122 (80 * x1 + x2) = rh_if (v = 1) 255 (Mm 122 (80 * x1 + x2)) → M2 137 (6 * (80 * x1 + x2) + x3) = n → (∀ t, 0 ≤ t → t < n → M2 136 (12 * (6 * (80 * x1 + x2) + x3) + t) = A 68 t) → (v = 1 → M2 128 (80 * x1 + x2) = n ∧ ∀ t, 0 ≤ t → t < n → M2 127 (12 * (80 * x1 + x2) + t) = A 68 t) → Rtp M' (rh_set M2 0 2 0) ∧ (RdA M' (rh_set M2 0 2 0) ∧ RdB M' (rh_set M2 0 2 0) ∧ RdC M' (rh_set M2 0 2 0)) ∧ frx (fun c j => Ftp c j ∨ c = 68 ∨ c = 69 ∨ (574 ≤ c ∧ c ≤ 634)) Mh M' ∧ frx (fun c j => (c = 0 ∧ (j = 0 ∨ j = 2)) ∨ (122 ≤ c ∧ c ≤ 137)) Mm (rh_set M2 0 2 0) := by
    intro M2 F2 h1 h2 h3 h4 h5
    have vb : 0 ≤ v ∧ v ≤ 2 := by
      rw [hv]
      by_cases z : b ≠ 0
      · rw [rh_if_t z]; decide
      · rw [rh_if_f z]
        by_cases z2 : Th = 3
        · rw [rh_if_t z2]; decide
        · rw [rh_if_f z2]; decide
    have eb : v = 1 → b ≠ 0 := fun z => by
      intro zb
      rw [rh_if_f (fun u => u zb)] at hv
      by_cases z2 : Th = 3
      · rw [rh_if_t z2] at hv; omega
      · rw [rh_if_f z2] at hv; omega
    refine ⟨Rtp.use (Mh := Mh) (Mm := Mm) m12 (rh_set_s _ _ _ _), Rd_ans (r := x1) (i := x2) (p := x3) (n := n) (v := v) ⟨by omega, by omega⟩ c'.1.2 ⟨by omega, by omega⟩ ⟨by omega, by omega⟩ ⟨by omega, by omega⟩ R Q C fM (fun c j c0 c1 hf => ?_) q3 vb k1 ?_ ?_ k2 ?_ (fun t t0 t1 => ?_) (fun z => ⟨(k4 (eb z)).1, ?_, fun t t0 t1 => ?_⟩), fM2, ((g0.tr (F2.w (fun c j h => by unfold Fam at h; omega))).st (by omega))⟩
    · rw [rh_set_a (by omega), F2 c j hf]; exact en c j (by omega)
    · rw [rh_set_a (by decide)]; exact h1
    · rw [rh_set_a (by decide)]; exact h2
    · rw [rh_set_a (by decide)]; exact h3
    · rw [rh_set_a (by decide), h4 t t0 t1]
      exact ⟨k3 t t0 (by omega), (Bt t t0 t1).2⟩
    · rw [rh_set_a (by decide)]; exact (h5 z).1
    · rw [rh_set_a (by decide), (h5 z).2 t t0 t1]
      exact ⟨(k4 (eb z)).2 t t0 (by omega), (Bt t t0 t1).2⟩
  have W22 : W 122 (80 * x1 + x2) = Mm 122 (80 * x1 + x2) := by
    rw [hW, rh_set_a (by decide), FB _ _ (by omega), rh_set_a (by decide)]
    exact en 122 _ (by decide)
  refine rh1.of (rX32_answer_146 hm _ _ _ _ _ ?_)
  rw [W3]
  refine ⟨fun z => by omega, fun _ => ⟨⟨by omega, by omega⟩, fun zb => ⟨⟨by omega, by omega⟩, ?_⟩, fun zb => ⟨fun z3 => ⟨⟨by omega, by omega⟩, ⟨by omega, by omega⟩, ?_⟩, fun z3 => ⟨⟨by omega, by omega⟩, ?_⟩⟩⟩⟩
  · have v1 : v = 1 := by rw [hv, rh_if_t (show b ≠ 0 by omega)]
    intro y hy
    rw [rh_set_a (by decide), W2] at hy
    rw [hy]
    refine ⟨⟨by omega, by omega⟩, ?_⟩
    obtain ⟨M2, E3, F3, v3, -⟩ := m_setl hm (k := 80 * x1 + x2) (n := n) ⟨by omega, by omega⟩ ⟨by omega, by omega⟩ n.toNat 0 (rh_set (rh_set W 122 (80 * x1 + x2) 255) 128 (80 * x1 + x2) n) (by omega) (by omega) (by rw [rh_set_a (by decide), rh_set_a (by decide)]; exact W2)
    refine rh1.s E3 ?_
    have e0 : M2 0 2 = n := by rw [F3 0 2 (by omega), rh_set_a (by decide), rh_set_a (by decide)]; exact W2
    have e3 : M2 123 (80 * x1 + x2) = v := by rw [F3 _ _ (by omega), rh_set_a (by decide), rh_set_a (by decide), W3, v1]; exact zb
    refine rh1.of (rX32_answer_262 hm _ _ _ ?_)
    rw [e0]
    refine ⟨fun z => by omega, fun _ => ⟨⟨by omega, by omega⟩, e3.symm, FIN M2 ?_ e3 ?_ ?_ (fun t t0 t1 => ?_) (fun _ => ⟨?_, fun t t0 t1 => ?_⟩)⟩⟩
    · exact ((gW.st (by unfold Fam; omega)).st (by unfold Fam; omega)).tr (F3.w (fun c j h => by unfold Fam; omega))
    · rw [F3 _ _ (by omega), rh_set_a (by decide), rh_set_s, rh_if_t v1]
    · rw [F3 _ _ (by omega), rh_set_a (by decide), rh_set_a (by decide)]; exact W7
    · rw [F3 _ _ (by omega), rh_set_a (by decide), rh_set_a (by decide)]; exact Wt t t0 t1
    · rw [F3 _ _ (by omega), rh_set_s]
    · rw [v3 t t0 t1, rh_set_a (by decide), rh_set_a (by decide), gW 1 t (by unfold Fam; omega)]
      exact ((good t t0 t1).2 (ok.2 t t0 t1)).symm
  · have v1 : v = 2 := by rw [hv, rh_if_f (show ¬ b ≠ 0 by omega), rh_if_t z3]
    refine ⟨by rw [rh_set_s]; exact v1, FIN (rh_set W 123 (80 * x1 + x2) 2) (gW.st (by unfold Fam; omega)) (by rw [rh_set_s]; exact v1.symm) ?_ ?_ (fun t t0 t1 => ?_) (fun z => by omega)⟩
    · rw [rh_set_a (by decide), W22, rh_if_f (by omega)]
    · rw [rh_set_a (by decide)]; exact W7
    · rw [rh_set_a (by decide)]; exact Wt t t0 t1
  · have v1 : v = 0 := by rw [hv, rh_if_f (show ¬ b ≠ 0 by omega), rh_if_f z3]
    refine ⟨by omega, FIN W gW (by omega) ?_ W7 Wt (fun z => by omega)⟩
    rw [W22, rh_if_f (by omega)]
end Answer
