/-! ===== LAYER 2: pictures told by bits: a row ===== -/
section PictB
variable {wh wm : rhW}
/-- a row was read: a fault on both sides, or both go on -/
def Rwc (N W H y : Int) (A B : rhM) (Hs : (Option Int → rhM → Prop) → Prop) (Hn : rhM → (Option Int → rhM → Prop) → Prop) (Ms : (Int → rhM → Prop) → Prop) : Prop :=
  (∃ (q : Int) (A' B' : rhM), (∀ P, P none A' → Hs P) ∧ (∀ P, P 0 B' → Ms P) ∧ A' 3 6 = q ∧ B' 0 11 = q ∧ (0 ≤ q ∧ q ≤ 4096) ∧ frx Fpc A A' ∧ frx Gpk B B') ∨
  (∃ (e : Int) (A' B' : rhM), (∀ P, Hn A' P → Hs P) ∧ (∀ P, P 0 B' → Ms P) ∧ (A' 1 3 = e ∧ B' 0 10 = e ∧ 0 ≤ e ∧ e ≤ N) ∧ (A' 8 1 = W ∧ A' 8 2 = H) ∧ B' 0 11 = -1 ∧ Pxl A' B' (W * (y + 1)) ∧ frx Fpc A A' ∧ frx Gpk B B')
theorem idx_b {W H x y : Int} (hW : 1 ≤ W) (hy : 0 ≤ y ∧ y < H) (hx : 0 ≤ x ∧ x < W) (hn : W * H ≤ 6144) : 0 ≤ W * y + x ∧ W * y + x < 6144 := by
  have h1 := mul_lt hx.1 hx.2 hy.1 hy.2
  have h2 : 0 ≤ W * y := mul_nn (by omega) hy.1
  omega
theorem t_bits (hh : rh_hs wh) (hm : rh_ms wm) {W H y x pl c : Int} (hW : 1 ≤ W ∧ W ≤ 128) (hy : 0 ≤ y ∧ y < H) (hn : W * H ≤ 6144) (hx : 0 ≤ x ∧ x < W) (hpl : 0 ≤ pl) : ∀ (u : Nat) (b t : Int) (A1 B1 : rhM), b + u = 8 → 0 ≤ b → (x + b < W → t = x + b) → (W ≤ x + b → t = W) → A1 8 1 = W → B1 0 11 = -1 → Pxl A1 B1 (W * y + t) →
    (∃ A' B' : rhM, (∀ P : Option Int → rhM → Prop, P none A' → rx1 wh YX14_read 3 46 [(0, 2, 23), (1, 2, 8), (2, 0, y), (3, 0, x), (4, 0, pl), (5, 0, c), (6, 0, b)] [] A1 P) ∧ (∀ P : Int → rhM → Prop, rh1 wm YX32_bitRow 1 2 [(0, 2, 0), (1, 0, W), (2, 0, y), (3, 0, x + 8)] [] B' P → rh1 wm YX32_bitRow 1 30 [(0, 2, 0), (1, 0, W), (2, 0, y), (3, 0, x), (4, 0, pl), (5, 0, c), (6, 0, b)] [] B1 P) ∧ A' 3 6 = pl ∧ B' 0 11 = pl ∧ frx Fpc A1 A' ∧ frx Gpk B1 B') ∨
    (∃ (A' B' : rhM) (t' : Int), (∀ P : Option Int → rhM → Prop, rx1 wh YX14_read 3 17 [(0, 2, 23), (1, 2, 8), (2, 0, y), (3, 0, x + 8)] [] A' P → rx1 wh YX14_read 3 46 [(0, 2, 23), (1, 2, 8), (2, 0, y), (3, 0, x), (4, 0, pl), (5, 0, c), (6, 0, b)] [] A1 P) ∧ (∀ P : Int → rhM → Prop, rh1 wm YX32_bitRow 1 2 [(0, 2, 0), (1, 0, W), (2, 0, y), (3, 0, x + 8)] [] B' P → rh1 wm YX32_bitRow 1 30 [(0, 2, 0), (1, 0, W), (2, 0, y), (3, 0, x), (4, 0, pl), (5, 0, c), (6, 0, b)] [] B1 P) ∧ (x + 8 < W → t' = x + 8) ∧ (W ≤ x + 8 → t' = W) ∧ Pxl A' B' (W * y + t') ∧ frx (fun c _ => c = 9) A1 A' ∧ frx (fun c _ => c = 6) B1 B') := by
  have bl := hs_sh hh
  intro u
  induction u with
  | zero =>
    intro b t A1 B1 hu b0 ht1 ht2 a1 b1 px
    refine .inr ⟨A1, B1, t, fun P K => ?_, fun P K => ?_, fun z => by have := ht1 (by omega); omega, fun z => ht2 (by omega), px, frx.rf, frx.rf⟩
    · refine rx1.of (rX14_read_46 hh _ _ _ _ _ _ _ bl ?_)
      exact ⟨fun z => by omega, fun _ => ⟨⟨by omega, by omega⟩, K⟩⟩
    · refine rh1.of (rX32_bitRow_30 hm _ _ _ _ _ _ _ ?_)
      exact ⟨fun z => by omega, fun _ => ⟨⟨by omega, by omega⟩, K⟩⟩
  | succ u ih =>
    intro b t A1 B1 hu b0 ht1 ht2 a1 b1 px
    obtain ⟨q, hq⟩ : ∃ q, q = rh_and (rh_shr c (7 - b)) 1 := ⟨_, rfl⟩
    by_cases cx : x + b < W
    · have et := ht1 cx
      have ib := idx_b hW.1 hy (x := x + b) ⟨by omega, by omega⟩ hn
      obtain ⟨vl, hvl⟩ : ∃ vl, vl = rh_if (q = 1) (0 : Int) 255 := ⟨_, rfl⟩
      have vb : 0 ≤ vl ∧ vl ≤ 255 := by
        by_cases z : q = 1
        · rw [hvl, rh_if_t z]; decide
        · rw [hvl, rh_if_f z]; decide
      have ve : rh_if (rh_if (q = 1) (1 : Int) 0 ≠ 0) (0 : Int) 255 = vl := by
        by_cases z : q = 1
        · rw [hvl, rh_if_t z, rh_if_t z, rh_if_t (by decide)]
        · rw [hvl, rh_if_f z, rh_if_f z, rh_if_f (by decide)]
      have ei : y * W + x + b = W * y + (x + b) := by rw [Int.mul_comm]; omega
      have px2 : Pxl (rh_set A1 9 (W * y + (x + b)) (rh_i2b vl)) (rh_set B1 6 (W * y + (x + b)) vl) (W * y + (t + 1)) := by
        rw [show W * y + (t + 1) = W * y + (x + b) + 1 by omega]
        rw [et] at px
        exact px.st (b255 vb.1 vb.2) vb
      have SH : ∀ P : Option Int → rhM → Prop, rx1 wh YX14_read 3 46 [(0, 2, 23), (1, 2, 8), (2, 0, y), (3, 0, x), (4, 0, pl), (5, 0, c), (6, 0, b + 1)] [] (rh_set A1 9 (W * y + (x + b)) (rh_i2b vl)) P → rx1 wh YX14_read 3 46 [(0, 2, 23), (1, 2, 8), (2, 0, y), (3, 0, x), (4, 0, pl), (5, 0, c), (6, 0, b)] [] A1 P := fun P K => by
        refine rx1.of (rX14_read_46 hh _ _ _ _ _ _ _ bl ?_)
        rw [a1, ← hq]
        refine ⟨fun _ s hs => ⟨⟨by omega, by omega⟩, fun _ => ⟨⟨by omega, by omega⟩, ib, ⟨by omega, by omega⟩, ?_⟩, fun z => absurd cx z⟩, fun z => by omega⟩
        rw [hs, ve]
        exact K
      have SM : ∀ P : Int → rhM → Prop, rh1 wm YX32_bitRow 1 30 [(0, 2, 0), (1, 0, W), (2, 0, y), (3, 0, x), (4, 0, pl), (5, 0, c), (6, 0, b + 1)] [] (rh_set B1 6 (W * y + (x + b)) vl) P → rh1 wm YX32_bitRow 1 30 [(0, 2, 0), (1, 0, W), (2, 0, y), (3, 0, x), (4, 0, pl), (5, 0, c), (6, 0, b)] [] B1 P := fun P K => by
        refine rh1.of (rX32_bitRow_30 hm _ _ _ _ _ _ _ ?_)
        rw [← hq, ei]
        refine ⟨fun _ s hs => ⟨⟨by omega, by omega⟩, fun _ => ⟨ib, ⟨by omega, by omega⟩, ?_⟩, fun z => absurd cx z⟩, fun z => absurd ⟨(by omega), b1⟩ z⟩
        rw [hs, ← hvl]
        exact K
      have fA : frx (fun c _ => c = 9) A1 (rh_set A1 9 (W * y + (x + b)) (rh_i2b vl)) := frx.rf.st rfl
      have gB : frx (fun c _ => c = 6) B1 (rh_set B1 6 (W * y + (x + b)) vl) := frx.rf.st rfl
      rcases ih (b + 1) (t + 1) _ _ (by omega) (by omega) (fun z => by omega) (fun z => by omega) ((rh_set_a (by decide)).trans a1) ((rh_set_a (by decide)).trans b1) px2 with ⟨A', B', k1, k2, k3, k4, k5, k6⟩ | ⟨A', B', t', k1, k2, k3, k4, k5, k6, k7⟩
      · exact .inl ⟨A', B', fun P K => SH P (k1 P K), fun P K => SM P (k2 P K), k3, k4, (fA.w (fun c j h => by unfold Fpc; omega)).tr k5, (gB.w (fun c j h => by unfold Gpk; omega)).tr k6⟩
      · exact .inr ⟨A', B', t', fun P K => SH P (k1 P K), fun P K => SM P (k2 P K), k3, k4, k5, fA.tr k6, gB.tr k7⟩
    · have et := ht2 (by omega)
      by_cases z1 : q = 1
      · refine .inl ⟨rh_set A1 3 6 pl, rh_set B1 0 11 pl, fun P K => ?_, fun P K => ?_, rh_set_s _ _ _ _, rh_set_s _ _ _ _, frx.rf.st (by unfold Fpc; omega), frx.rf.st (by unfold Gpk; omega)⟩
        · refine rx1.of (rX14_read_46 hh _ _ _ _ _ _ _ bl ?_)
          rw [a1, ← hq]
          refine ⟨fun _ s hs => ⟨⟨by omega, by omega⟩, fun z => absurd z cx, fun _ => ?_⟩, fun z => by omega⟩
          rw [hs, rh_if_t z1, rh_if_f (by decide)]
          exact rx1.t (vtX14_read_125 hh (c_mustT hh _) (LE0 rfl)) K
        · have hq2 : ¬ rh_set B1 0 11 pl 0 11 = -1 := by rw [rh_set_s]; omega
          refine rh1.of (rX32_bitRow_30 hm _ _ _ _ _ _ _ ?_)
          rw [← hq]
          refine ⟨fun _ s hs => ⟨⟨by omega, by omega⟩, fun z => absurd z cx, fun _ => ?_⟩, fun z => absurd ⟨(by omega), b1⟩ z⟩
          rw [hs]
          refine ⟨fun _ => ⟨⟨by omega, by omega⟩, ?_⟩, fun z => absurd z1 z⟩
          refine rh1.of (rX32_bitRow_30 hm _ _ _ _ _ _ _ ?_)
          exact ⟨fun z => absurd z.2 hq2, fun _ => ⟨⟨by omega, by omega⟩, K⟩⟩
      · have SH : ∀ P : Option Int → rhM → Prop, rx1 wh YX14_read 3 46 [(0, 2, 23), (1, 2, 8), (2, 0, y), (3, 0, x), (4, 0, pl), (5, 0, c), (6, 0, b + 1)] [] A1 P → rx1 wh YX14_read 3 46 [(0, 2, 23), (1, 2, 8), (2, 0, y), (3, 0, x), (4, 0, pl), (5, 0, c), (6, 0, b)] [] A1 P := fun P K => by
          refine rx1.of (rX14_read_46 hh _ _ _ _ _ _ _ bl ?_)
          rw [a1, ← hq]
          refine ⟨fun _ s hs => ⟨⟨by omega, by omega⟩, fun z => absurd z cx, fun _ => ?_⟩, fun z => by omega⟩
          rw [hs, rh_if_f z1, rh_if_t rfl]
          refine rx1.g (vgX14_read_125 hh (c_must hh (by decide) _) (LE0 rfl)) ?_
          refine rx1.of (rX14_read_128 hh _ _ _ _ _ _ _ bl ?_)
          exact ⟨⟨by omega, by omega⟩, K⟩
        have SM : ∀ P : Int → rhM → Prop, rh1 wm YX32_bitRow 1 30 [(0, 2, 0), (1, 0, W), (2, 0, y), (3, 0, x), (4, 0, pl), (5, 0, c), (6, 0, b + 1)] [] B1 P → rh1 wm YX32_bitRow 1 30 [(0, 2, 0), (1, 0, W), (2, 0, y), (3, 0, x), (4, 0, pl), (5, 0, c), (6, 0, b)] [] B1 P := fun P K => by
          refine rh1.of (rX32_bitRow_30 hm _ _ _ _ _ _ _ ?_)
          rw [← hq]
          refine ⟨fun _ s hs => ⟨⟨by omega, by omega⟩, fun z => absurd z cx, fun _ => ?_⟩, fun z => absurd ⟨(by omega), b1⟩ z⟩
          rw [hs]
          exact ⟨fun z => absurd z z1, fun _ => ⟨⟨by omega, by omega⟩, K⟩⟩
        rcases ih (b + 1) t A1 B1 (by omega) (by omega) (fun z => by omega) (fun z => et) a1 b1 px with ⟨A', B', k1, k2, k3⟩ | ⟨A', B', t', k1, k2, k3⟩
        · exact .inl ⟨A', B', fun P K => SH P (k1 P K), fun P K => SM P (k2 P K), k3⟩
        · exact .inr ⟨A', B', t', fun P K => SH P (k1 P K), fun P K => SM P (k2 P K), k3⟩
theorem t_bitrow (hh : rh_hs wh) (hm : rh_ms wm) {v : Int → Int} {N W H y : Int} {A B : rhM} (T : Tq v N A B) (hW : 1 ≤ W ∧ W ≤ 128) (hy : 0 ≤ y ∧ y < H) (hH : H ≤ 96) (hn : W * H ≤ 6144) : ∀ (u : Nat) (x t e : Int) (A1 B1 : rhM), W - x ≤ u → 0 ≤ x → x ≤ 200 → (x < W → t = x) → (W ≤ x → t = W) → A1 8 1 = W → A1 8 2 = H → A1 1 3 = e → B1 0 10 = e → 0 ≤ e → e ≤ N → B1 0 11 = -1 → Pxl A1 B1 (W * y + t) → frx Fpc A A1 → frx Gpk B B1 →
    Rwc N W H y A B (fun P => rx1 wh YX14_read 3 17 [(0, 2, 23), (1, 2, 8), (2, 0, y), (3, 0, x)] [] A1 P) (fun M P => rx1 wh YX14_read 3 7 [(0, 2, 23), (1, 2, 8), (2, 0, y + 1)] [] M P) (fun P => rh1 wm YX32_bitRow 1 2 [(0, 2, 0), (1, 0, W), (2, 0, y), (3, 0, x)] [] B1 P) := by
  have bl := hs_sh hh
  have t4 := T.1.2.2.2
  intro u
  induction u with
  | zero =>
    intro x t e A1 B1 hu x0 x2 ht1 ht2 a1 a2 a3 b1 e0 e1 b2 px fA gB
    refine .inr ⟨e, A1, B1, fun P K => ?_, fun P K => ?_, ⟨a3, b1, e0, e1⟩, ⟨a1, a2⟩, b2, ?_, fA, gB⟩
    · show rx1 wh YX14_read 3 17 [(0, 2, 23), (1, 2, 8), (2, 0, y), (3, 0, x)] [] A1 P
      refine rx1.of (rX14_read_17 hh _ _ _ _ bl ?_)
      rw [a1]
      exact ⟨fun z => by omega, fun _ => ⟨⟨by omega, by omega⟩, K⟩⟩
    · show rh1 wm YX32_bitRow 1 2 [(0, 2, 0), (1, 0, W), (2, 0, y), (3, 0, x)] [] B1 P
      refine rh1.of (rX32_bitRow_2 hm _ _ _ _ ?_)
      exact ⟨fun z => by omega, fun _ => K⟩
    · rw [ht2 (by omega)] at px
      rw [Int.mul_add, Int.mul_one]
      exact px
  | succ u ih =>
    intro x t e A1 B1 hu x0 x2 ht1 ht2 a1 a2 a3 b1 e0 e1 b2 px fA gB
    by_cases cx : x < W
    case neg =>
      refine .inr ⟨e, A1, B1, fun P K => ?_, fun P K => ?_, ⟨a3, b1, e0, e1⟩, ⟨a1, a2⟩, b2, ?_, fA, gB⟩
      · show rx1 wh YX14_read 3 17 [(0, 2, 23), (1, 2, 8), (2, 0, y), (3, 0, x)] [] A1 P
        refine rx1.of (rX14_read_17 hh _ _ _ _ bl ?_)
        rw [a1]
        exact ⟨fun z => absurd z cx, fun _ => ⟨⟨by omega, by omega⟩, K⟩⟩
      · show rh1 wm YX32_bitRow 1 2 [(0, 2, 0), (1, 0, W), (2, 0, y), (3, 0, x)] [] B1 P
        refine rh1.of (rX32_bitRow_2 hm _ _ _ _ ?_)
        exact ⟨fun z => absurd z.1 cx, fun _ => K⟩
      · rw [ht2 (by omega)] at px
        rw [Int.mul_add, Int.mul_one]
        exact px
    have T1 := T.pc fA gB
    have t1 := T1.1.1
    have et := ht1 cx
    -- the model after a fault
    have ME : ∀ (B' : rhM) (x' : Int) (P : Int → rhM → Prop), ¬ B' 0 11 = -1 → P 0 B' → rh1 wm YX32_bitRow 1 2 [(0, 2, 0), (1, 0, W), (2, 0, y), (3, 0, x')] [] B' P := fun B' x' P hq K => by
      refine rh1.of (rX32_bitRow_2 hm _ _ _ _ ?_)
      exact ⟨fun z => absurd z.2 hq, fun _ => K⟩
    by_cases ce : e = N
    · refine .inl ⟨N, rh_set A1 3 6 N, rh_set B1 0 11 N, fun P K => ?_, fun P K => ?_, rh_set_s _ _ _ _, rh_set_s _ _ _ _, ⟨by omega, by omega⟩, fA.st (by unfold Fpc; omega), gB.st (by unfold Gpk; omega)⟩
      · have K2 := c_nextT hh A1 (by rw [a3, t1, ce])
        rw [a3, ce] at K2
        show rx1 wh YX14_read 3 17 [(0, 2, 23), (1, 2, 8), (2, 0, y), (3, 0, x)] [] A1 P
        refine rx1.of (rX14_read_17 hh _ _ _ _ bl ?_)
        rw [a1]
        exact ⟨fun _ => rx1.t (vtX14_read_38 hh K2 (LE0 rfl)) K, fun z => absurd cx z⟩
      · have hq : ¬ rh_set B1 0 11 N 0 11 = -1 := by rw [rh_set_s]; omega
        show rh1 wm YX32_bitRow 1 2 [(0, 2, 0), (1, 0, W), (2, 0, y), (3, 0, x)] [] B1 P
        refine rh1.of (rX32_bitRow_2 hm _ _ _ _ ?_)
        refine ⟨fun _ => rh1.s (vX32_bitRow_22 hm (c_tbN hm T1.1.2.1 (by omega) b2) (LE0 rfl)) ?_, fun z => absurd ⟨cx, b2⟩ z⟩
        refine rh1.of (rX32_bitRow_25 hm _ _ _ _ _ _ ?_)
        refine rh1.of (rX32_bitRow_30 hm _ _ _ _ _ _ _ ?_)
        exact ⟨fun z => absurd z.2 hq, fun _ => ⟨⟨by omega, by omega⟩, ME _ _ P hq K⟩⟩
    have eN : e < N := (by omega)
    have K2 := c_next hh (k := e) (n := N) A1 a3 t1 ⟨by omega, by omega⟩ t4
    rw [(T1.2 e e0 eN).1] at K2
    have fA2 : frx Fpc A (rh_set A1 1 3 (e + 1)) := fA.st (by unfold Fpc; omega)
    have gB2 : frx Gpk B (rh_set B1 0 10 (e + 1)) := gB.st (by unfold Gpk; omega)
    have SH : ∀ P : Option Int → rhM → Prop, rx1 wh YX14_read 3 46 [(0, 2, 23), (1, 2, 8), (2, 0, y), (3, 0, x), (4, 0, e), (5, 0, v e), (6, 0, 0)] [] (rh_set A1 1 3 (e + 1)) P → rx1 wh YX14_read 3 17 [(0, 2, 23), (1, 2, 8), (2, 0, y), (3, 0, x)] [] A1 P := fun P K => by
      refine rx1.of (rX14_read_17 hh _ _ _ _ bl ?_)
      rw [a1, a3]
      refine ⟨fun _ => rx1.g (vgX14_read_38 hh K2 (LE0 rfl)) ?_, fun z => absurd cx z⟩
      refine rx1.of (rX14_read_41 hh _ _ _ _ _ _ bl ?_)
      exact K
    have SM : ∀ P : Int → rhM → Prop, rh1 wm YX32_bitRow 1 30 [(0, 2, 0), (1, 0, W), (2, 0, y), (3, 0, x), (4, 0, e), (5, 0, v e), (6, 0, 0)] [] (rh_set B1 0 10 (e + 1)) P → rh1 wm YX32_bitRow 1 2 [(0, 2, 0), (1, 0, W), (2, 0, y), (3, 0, x)] [] B1 P := fun P K => by
      refine rh1.of (rX32_bitRow_2 hm _ _ _ _ ?_)
      rw [b1]
      refine ⟨fun _ => rh1.s (vX32_bitRow_22 hm (c_tb hm T1 b1 e0 eN) (LE0 rfl)) ?_, fun z => absurd ⟨cx, b2⟩ z⟩
      refine rh1.of (rX32_bitRow_25 hm _ _ _ _ _ _ ?_)
      exact K
    have w1 : rh_set A1 1 3 (e + 1) 8 1 = W := (rh_set_a (by decide)).trans a1
    have w2 : rh_set B1 0 10 (e + 1) 0 11 = -1 := (rh_set_j (by decide)).trans b2
    rcases t_bits hh hm (c := v e) hW hy hn ⟨x0, cx⟩ e0 8 0 t _ _ (by decide) (by decide) (fun z => by omega) (fun z => by omega) w1 w2 (px.fx (rh_set_n (by decide)) (rh_set_n (by decide))) with ⟨A', B', k1, k2, k3, k4, k5, k6⟩ | ⟨A', B', t', k1, k2, k3, k4, k5, k6, k7⟩
    · exact .inl ⟨e, A', B', fun P K => SH P (k1 P K), fun P K => SM P (k2 P (ME _ _ P (by omega) K)), k3, k4, ⟨by omega, by omega⟩, fA2.tr k5, gB2.tr k6⟩
    · have fA3 : frx Fpc A A' := fA2.tr (k6.w (fun c j h => by unfold Fpc; omega))
      have gB3 : frx Gpk B B' := gB2.tr (k7.w (fun c j h => by unfold Gpk; omega))
      rcases ih (x + 8) t' (e + 1) A' B' (by omega) (by omega) (by omega) k3 k4 ((k6 8 1 (by decide)).trans w1) ((k6 8 2 (by decide)).trans ((rh_set_a (by decide)).trans a2)) ((k6 1 3 (by decide)).trans (rh_set_s _ _ _ _)) ((k7 0 10 (by decide)).trans (rh_set_s _ _ _ _)) (by omega) (by omega) ((k7 0 11 (by decide)).trans w2) k5 fA3 gB3 with ⟨q, A5, B5, l1, l2, l3⟩ | ⟨e5, A5, B5, l1, l2, l3⟩
      · exact .inl ⟨q, A5, B5, fun P K => SH P (k1 P (l1 P K)), fun P K => SM P (k2 P (l2 P K)), l3⟩
      · exact .inr ⟨e5, A5, B5, fun P K => SH P (k1 P (l1 P K)), fun P K => SM P (k2 P (l2 P K)), l3⟩
end PictB
