/-! ===== LAYER 2: pictures told by runs: a row ===== -/
section PictR
variable {wh wm : rhW}
theorem t_run (hh : rh_hs wh) (hm : rh_ms wm) {v : Int → Int} {N W H y n m vv : Int} {A B : rhM} (T : Tq v N A B) (hW : 1 ≤ W ∧ W ≤ 128) (hy : 0 ≤ y ∧ y < H) (hn : W * H ≤ 6144) (hm2 : 0 ≤ m ∧ m ≤ 256) (hv : 0 ≤ vv ∧ vv ≤ 255) (n8 : n ≠ 128) : ∀ (u : Nat) (k x e : Int) (A1 B1 : rhM), k + u = m → 0 ≤ k → 0 ≤ x → x + (m - k) ≤ W → A1 8 1 = W → A1 8 2 = H → A1 1 3 = e → B1 0 10 = e → 0 ≤ e → e ≤ N → B1 0 11 = -1 → Pxl A1 B1 (W * y + x) → frx Fpc A A1 → frx Gpk B B1 →
    (∃ (q : Int) (A' B' : rhM), (∀ P : Option Int → rhM → Prop, P none A' → rx1 wh YX15_read 3 123 [(0, 2, 24), (1, 2, 8), (2, 0, y), (3, 0, x), (5, 0, n), (6, 0, m), (7, 0, vv), (8, 0, k)] [] A1 P) ∧ (∀ P : Int → rhM → Prop, P 0 B' → rh1 wm YX32_runRow 1 109 [(0, 2, 0), (1, 0, W), (2, 0, y), (3, 0, x), (5, 0, n), (6, 0, m), (7, 0, vv), (8, 0, k)] [] B1 P) ∧ A' 3 6 = q ∧ B' 0 11 = q ∧ (0 ≤ q ∧ q ≤ 4096) ∧ frx Fpc A A' ∧ frx Gpk B B') ∨
    (∃ (e' : Int) (A' B' : rhM), (∀ P : Option Int → rhM → Prop, rx1 wh YX15_read 3 17 [(0, 2, 24), (1, 2, 8), (2, 0, y), (3, 0, x + (m - k))] [] A' P → rx1 wh YX15_read 3 123 [(0, 2, 24), (1, 2, 8), (2, 0, y), (3, 0, x), (5, 0, n), (6, 0, m), (7, 0, vv), (8, 0, k)] [] A1 P) ∧ (∀ P : Int → rhM → Prop, rh1 wm YX32_runRow 1 2 [(0, 2, 0), (1, 0, W), (2, 0, y), (3, 0, x + (m - k))] [] B' P → rh1 wm YX32_runRow 1 109 [(0, 2, 0), (1, 0, W), (2, 0, y), (3, 0, x), (5, 0, n), (6, 0, m), (7, 0, vv), (8, 0, k)] [] B1 P) ∧ (A' 1 3 = e' ∧ B' 0 10 = e' ∧ 0 ≤ e' ∧ e' ≤ N) ∧ (A' 8 1 = W ∧ A' 8 2 = H) ∧ B' 0 11 = -1 ∧ Pxl A' B' (W * y + (x + (m - k))) ∧ frx Fpc A A' ∧ frx Gpk B B') := by
  have bl := hs_sh hh
  have t4 := T.1.2.2.2
  intro u
  induction u with
  | zero =>
    intro k x e A1 B1 hu k0 x0 xm a1 a2 a3 b1 e0 e1 b2 px fA gB
    have ex : x + (m - k) = x := (by omega)
    rw [ex]
    refine .inr ⟨e, A1, B1, fun P K => ?_, fun P K => ?_, ⟨a3, b1, e0, e1⟩, ⟨a1, a2⟩, b2, px, fA, gB⟩
    · refine rx1.of (rX15_read_123 hh _ _ _ _ _ _ _ _ bl ?_)
      exact ⟨fun z => by omega, fun _ => K⟩
    · refine rh1.of (rX32_runRow_109 hm _ _ _ _ _ _ _ _ ?_)
      exact ⟨fun z => by omega, fun _ => K⟩
  | succ u ih =>
    intro k x e A1 B1 hu k0 x0 xm a1 a2 a3 b1 e0 e1 b2 px fA gB
    have T1 := T.pc fA gB
    have t1 := T1.1.1
    have ib := idx_b hW.1 hy (x := x) ⟨by omega, by omega⟩ hn
    have ei : y * W + x = W * y + x := by rw [Int.mul_comm]
    have ex : x + 1 + (m - (k + 1)) = x + (m - k) := (by omega)
    by_cases c8 : n < 128
    · by_cases ce : e = N
      · refine .inl ⟨N, rh_set A1 3 6 N, rh_set (rh_set B1 0 11 N) 6 (W * y + x) 0, fun P K => ?_, fun P K => ?_, rh_set_s _ _ _ _, (rh_set_a (by decide)).trans (rh_set_s _ _ _ _), ⟨by omega, by omega⟩, fA.st (by unfold Fpc; omega), (gB.st (by unfold Gpk; omega)).st (by unfold Gpk; omega)⟩
        · have K2 := c_nextT hh A1 (by rw [a3, t1, ce])
          rw [a3, ce] at K2
          refine rx1.of (rX15_read_123 hh _ _ _ _ _ _ _ _ bl ?_)
          exact ⟨fun _ => ⟨fun _ => rx1.t (vtX15_read_145 hh K2 (LE0 rfl)) K, fun z => absurd c8 z⟩, fun z => by omega⟩
        · have hq : ¬ rh_set (rh_set B1 0 11 N) 6 (W * y + x) 0 0 11 = -1 := by rw [rh_set_a (by decide), rh_set_s]; omega
          refine rh1.of (rX32_runRow_109 hm _ _ _ _ _ _ _ _ ?_)
          refine ⟨fun _ => ⟨fun z => by omega, fun _ => ?_⟩, fun z => absurd ⟨(by omega), b2⟩ z⟩
          rw [ei]
          refine rh1.s (eS.fx 1 (x := W * y + x) rfl ⟨by omega, by omega⟩ rfl) ?_
          refine rh1.s (vX32_runRow_147 hm (c_tbN hm T1.1.2.1 (by omega) b2) (LE0 rfl)) ?_
          refine rh1.of (rX32_runRow_150 hm _ _ _ _ _ _ _ _ _ _ ?_)
          refine ⟨ib, ⟨by omega, by omega⟩, ⟨by omega, by omega⟩, ?_⟩
          refine rh1.of (rX32_runRow_109 hm _ _ _ _ _ _ _ _ ?_)
          refine ⟨fun z => absurd z.2 hq, fun _ => ?_⟩
          refine rh1.of (rX32_runRow_2 hm _ _ _ _ ?_)
          exact ⟨fun z => absurd z.2 hq, fun _ => K⟩
      · have eN : e < N := (by omega)
        have ve := T1.2 e e0 eN
        have K2 := c_next hh (k := e) (n := N) A1 a3 t1 ⟨by omega, by omega⟩ t4
        rw [ve.1] at K2
        have bb := b255 ve.2.2.1 ve.2.2.2
        have a4 : rh_set A1 1 3 (e + 1) 8 1 = W := (rh_set_a (by decide)).trans a1
        have SH : ∀ P : Option Int → rhM → Prop, rx1 wh YX15_read 3 123 [(0, 2, 24), (1, 2, 8), (2, 0, y), (3, 0, x + 1), (5, 0, n), (6, 0, m), (7, 0, vv), (8, 0, k + 1)] [] (rh_set (rh_set A1 1 3 (e + 1)) 9 (W * y + x) (rh_i2b (v e))) P → rx1 wh YX15_read 3 123 [(0, 2, 24), (1, 2, 8), (2, 0, y), (3, 0, x), (5, 0, n), (6, 0, m), (7, 0, vv), (8, 0, k)] [] A1 P := fun P K => by
          refine rx1.of (rX15_read_123 hh _ _ _ _ _ _ _ _ bl ?_)
          refine ⟨fun _ => ⟨fun _ => rx1.g (vgX15_read_145 hh K2 (LE0 rfl)) ?_, fun z => absurd c8 z⟩, fun z => by omega⟩
          refine rx1.of (rX15_read_148 hh _ _ _ _ _ _ _ _ _ _ _ _ bl bl ?_)
          rw [a4]
          exact ⟨ib, ⟨by omega, by omega⟩, ⟨by omega, by omega⟩, K⟩
        have SM : ∀ P : Int → rhM → Prop, rh1 wm YX32_runRow 1 109 [(0, 2, 0), (1, 0, W), (2, 0, y), (3, 0, x + 1), (5, 0, n), (6, 0, m), (7, 0, vv), (8, 0, k + 1)] [] (rh_set (rh_set B1 0 10 (e + 1)) 6 (W * y + x) (v e)) P → rh1 wm YX32_runRow 1 109 [(0, 2, 0), (1, 0, W), (2, 0, y), (3, 0, x), (5, 0, n), (6, 0, m), (7, 0, vv), (8, 0, k)] [] B1 P := fun P K => by
          refine rh1.of (rX32_runRow_109 hm _ _ _ _ _ _ _ _ ?_)
          refine ⟨fun _ => ⟨fun z => by omega, fun _ => ?_⟩, fun z => absurd ⟨(by omega), b2⟩ z⟩
          rw [ei]
          refine rh1.s (eS.fx 1 (x := W * y + x) rfl ⟨by omega, by omega⟩ rfl) ?_
          refine rh1.s (vX32_runRow_147 hm (c_tb hm T1 b1 e0 eN) (LE0 rfl)) ?_
          refine rh1.of (rX32_runRow_150 hm _ _ _ _ _ _ _ _ _ _ ?_)
          exact ⟨ib, ⟨by omega, by omega⟩, ⟨by omega, by omega⟩, K⟩
        have px2 : Pxl (rh_set (rh_set A1 1 3 (e + 1)) 9 (W * y + x) (rh_i2b (v e))) (rh_set (rh_set B1 0 10 (e + 1)) 6 (W * y + x) (v e)) (W * y + (x + 1)) := by
          rw [← Int.add_assoc]
          exact (px.fx (A' := rh_set A1 1 3 (e + 1)) (B' := rh_set B1 0 10 (e + 1)) (rh_set_n (by decide)) (rh_set_n (by decide))).st bb ve.2.2
        rcases ih (k + 1) (x + 1) (e + 1) _ _ (by omega) (by omega) (by omega) (by omega) ((rh_set_a (by decide)).trans a4) ((rh_set_a (by decide)).trans ((rh_set_a (by decide)).trans a2)) ((rh_set_a (by decide)).trans (rh_set_s _ _ _ _)) ((rh_set_a (by decide)).trans (rh_set_s _ _ _ _)) (by omega) (by omega) ((rh_set_a (by decide)).trans ((rh_set_j (by decide)).trans b2)) px2 ((fA.st (by unfold Fpc; omega)).st (by unfold Fpc; omega)) ((gB.st (by unfold Gpk; omega)).st (by unfold Gpk; omega)) with ⟨q, A5, B5, l1, l2, l3⟩ | ⟨e5, A5, B5, l1, l2, l3⟩
        · exact .inl ⟨q, A5, B5, fun P K => SH P (l1 P K), fun P K => SM P (l2 P K), l3⟩
        · rw [ex] at l1 l2 l3
          exact .inr ⟨e5, A5, B5, fun P K => SH P (l1 P K), fun P K => SM P (l2 P K), l3⟩
    · have bb := b255 hv.1 hv.2
      have SH : ∀ P : Option Int → rhM → Prop, rx1 wh YX15_read 3 123 [(0, 2, 24), (1, 2, 8), (2, 0, y), (3, 0, x + 1), (5, 0, n), (6, 0, m), (7, 0, vv), (8, 0, k + 1)] [] (rh_set A1 9 (W * y + x) (rh_i2b vv)) P → rx1 wh YX15_read 3 123 [(0, 2, 24), (1, 2, 8), (2, 0, y), (3, 0, x), (5, 0, n), (6, 0, m), (7, 0, vv), (8, 0, k)] [] A1 P := fun P K => by
        refine rx1.of (rX15_read_123 hh _ _ _ _ _ _ _ _ bl ?_)
        rw [a1]
        exact ⟨fun _ => ⟨fun z => absurd z c8, fun _ => ⟨ib, ⟨by omega, by omega⟩, ⟨by omega, by omega⟩, K⟩⟩, fun z => by omega⟩
      have SM : ∀ P : Int → rhM → Prop, rh1 wm YX32_runRow 1 109 [(0, 2, 0), (1, 0, W), (2, 0, y), (3, 0, x + 1), (5, 0, n), (6, 0, m), (7, 0, vv), (8, 0, k + 1)] [] (rh_set B1 6 (W * y + x) vv) P → rh1 wm YX32_runRow 1 109 [(0, 2, 0), (1, 0, W), (2, 0, y), (3, 0, x), (5, 0, n), (6, 0, m), (7, 0, vv), (8, 0, k)] [] B1 P := fun P K => by
        refine rh1.of (rX32_runRow_109 hm _ _ _ _ _ _ _ _ ?_)
        rw [ei]
        exact ⟨fun _ => ⟨fun _ => ⟨ib, ⟨by omega, by omega⟩, ⟨by omega, by omega⟩, K⟩, fun z => by omega⟩, fun z => absurd ⟨(by omega), b2⟩ z⟩
      have px2 : Pxl (rh_set A1 9 (W * y + x) (rh_i2b vv)) (rh_set B1 6 (W * y + x) vv) (W * y + (x + 1)) := by
        rw [← Int.add_assoc]
        exact px.st bb hv
      rcases ih (k + 1) (x + 1) e _ _ (by omega) (by omega) (by omega) (by omega) ((rh_set_a (by decide)).trans a1) ((rh_set_a (by decide)).trans a2) ((rh_set_a (by decide)).trans a3) ((rh_set_a (by decide)).trans b1) (by omega) (by omega) ((rh_set_a (by decide)).trans b2) px2 (fA.st (by unfold Fpc; omega)) (gB.st (by unfold Gpk; omega)) with ⟨q, A5, B5, l1, l2, l3⟩ | ⟨e5, A5, B5, l1, l2, l3⟩
      · exact .inl ⟨q, A5, B5, fun P K => SH P (l1 P K), fun P K => SM P (l2 P K), l3⟩
      · rw [ex] at l1 l2 l3
        exact .inr ⟨e5, A5, B5, fun P K => SH P (l1 P K), fun P K => SM P (l2 P K), l3⟩
theorem t_runrow (hh : rh_hs wh) (hm : rh_ms wm) {v : Int → Int} {N W H y : Int} {A B : rhM} (T : Tq v N A B) (hW : 1 ≤ W ∧ W ≤ 128) (hy : 0 ≤ y ∧ y < H) (hH : H ≤ 96) (hn : W * H ≤ 6144) : ∀ (u : Nat) (x e : Int) (A1 B1 : rhM), W - x ≤ u → 0 ≤ x → x ≤ W → A1 8 1 = W → A1 8 2 = H → A1 1 3 = e → B1 0 10 = e → 0 ≤ e → e ≤ N → B1 0 11 = -1 → Pxl A1 B1 (W * y + x) → frx Fpc A A1 → frx Gpk B B1 →
    Rwc N W H y A B (fun P => rx1 wh YX15_read 3 17 [(0, 2, 24), (1, 2, 8), (2, 0, y), (3, 0, x)] [] A1 P) (fun M P => rx1 wh YX15_read 3 7 [(0, 2, 24), (1, 2, 8), (2, 0, y + 1)] [] M P) (fun P => rh1 wm YX32_runRow 1 2 [(0, 2, 0), (1, 0, W), (2, 0, y), (3, 0, x)] [] B1 P) := by
  have bl := hs_sh hh
  have t4 := T.1.2.2.2
  have ME : ∀ (B' : rhM) (x' : Int) (P : Int → rhM → Prop), ¬ B' 0 11 = -1 → P 0 B' → rh1 wm YX32_runRow 1 2 [(0, 2, 0), (1, 0, W), (2, 0, y), (3, 0, x')] [] B' P := fun B' x' P hq K => by
    refine rh1.of (rX32_runRow_2 hm _ _ _ _ ?_)
    exact ⟨fun z => absurd z.2 hq, fun _ => K⟩
  have MG : ∀ (B' : rhM) (x' n' m' v' k' : Int) (P : Int → rhM → Prop), ¬ B' 0 11 = -1 → P 0 B' → rh1 wm YX32_runRow 1 109 [(0, 2, 0), (1, 0, W), (2, 0, y), (3, 0, x'), (5, 0, n'), (6, 0, m'), (7, 0, v'), (8, 0, k')] [] B' P := fun B' x' n' m' v' k' P hq K => by
    refine rh1.of (rX32_runRow_109 hm _ _ _ _ _ _ _ _ ?_)
    exact ⟨fun z => absurd z.2 hq, fun _ => ME B' x' P hq K⟩
  intro u
  induction u with
  | zero =>
    intro x e A1 B1 hu x0 xW a1 a2 a3 b1 e0 e1 b2 px fA gB
    have ex : x = W := (by omega)
    refine .inr ⟨e, A1, B1, fun P K => ?_, fun P K => ?_, ⟨a3, b1, e0, e1⟩, ⟨a1, a2⟩, b2, ?_, fA, gB⟩
    · show rx1 wh YX15_read 3 17 [(0, 2, 24), (1, 2, 8), (2, 0, y), (3, 0, x)] [] A1 P
      refine rx1.of (rX15_read_17 hh _ _ _ _ bl ?_)
      rw [a1]
      exact ⟨fun z => by omega, fun _ => ⟨⟨by omega, by omega⟩, K⟩⟩
    · show rh1 wm YX32_runRow 1 2 [(0, 2, 0), (1, 0, W), (2, 0, y), (3, 0, x)] [] B1 P
      refine rh1.of (rX32_runRow_2 hm _ _ _ _ ?_)
      exact ⟨fun z => by omega, fun _ => K⟩
    · rw [ex] at px
      rw [Int.mul_add, Int.mul_one]
      exact px
  | succ u ih =>
    intro x e A1 B1 hu x0 xW a1 a2 a3 b1 e0 e1 b2 px fA gB
    by_cases cx : x < W
    case neg =>
      have ex : x = W := (by omega)
      refine .inr ⟨e, A1, B1, fun P K => ?_, fun P K => ?_, ⟨a3, b1, e0, e1⟩, ⟨a1, a2⟩, b2, ?_, fA, gB⟩
      · show rx1 wh YX15_read 3 17 [(0, 2, 24), (1, 2, 8), (2, 0, y), (3, 0, x)] [] A1 P
        refine rx1.of (rX15_read_17 hh _ _ _ _ bl ?_)
        rw [a1]
        exact ⟨fun z => by omega, fun _ => ⟨⟨by omega, by omega⟩, K⟩⟩
      · show rh1 wm YX32_runRow 1 2 [(0, 2, 0), (1, 0, W), (2, 0, y), (3, 0, x)] [] B1 P
        refine rh1.of (rX32_runRow_2 hm _ _ _ _ ?_)
        exact ⟨fun z => by omega, fun _ => K⟩
      · rw [ex] at px
        rw [Int.mul_add, Int.mul_one]
        exact px
    have T1 := T.pc fA gB
    have t1 := T1.1.1
    by_cases ce : e = N
    · refine .inl ⟨N, rh_set A1 3 6 N, rh_set B1 0 11 N, fun P K => ?_, fun P K => ?_, rh_set_s _ _ _ _, rh_set_s _ _ _ _, ⟨by omega, by omega⟩, fA.st (by unfold Fpc; omega), gB.st (by unfold Gpk; omega)⟩
      · have K2 := c_nextT hh A1 (by rw [a3, t1, ce])
        rw [a3, ce] at K2
        show rx1 wh YX15_read 3 17 [(0, 2, 24), (1, 2, 8), (2, 0, y), (3, 0, x)] [] A1 P
        refine rx1.of (rX15_read_17 hh _ _ _ _ bl ?_)
        rw [a1]
        exact ⟨fun _ => rx1.t (vtX15_read_38 hh K2 (LE0 rfl)) K, fun z => absurd cx z⟩
      · have hq : ¬ rh_set B1 0 11 N 0 11 = -1 := by rw [rh_set_s]; omega
        show rh1 wm YX32_runRow 1 2 [(0, 2, 0), (1, 0, W), (2, 0, y), (3, 0, x)] [] B1 P
        refine rh1.of (rX32_runRow_2 hm _ _ _ _ ?_)
        refine ⟨fun _ => rh1.s (vX32_runRow_22 hm (c_tbN hm T1.1.2.1 (by omega) b2) (LE0 rfl)) ?_, fun z => absurd ⟨cx, b2⟩ z⟩
        refine rh1.of (rX32_runRow_25 hm _ _ _ _ _ _ ?_)
        intro s hs
        rw [rh_if_t (by decide)] at hs
        rw [hs]
        exact ⟨⟨by omega, by omega⟩, fun z => absurd z hq, fun _ => ⟨fun z => absurd z.1 hq, fun _ => MG _ _ _ _ _ _ P hq K⟩⟩
    have eN : e < N := (by omega)
    have ve := T1.2 e e0 eN
    have K2 := c_next hh (k := e) (n := N) A1 a3 t1 ⟨by omega, by omega⟩ t4
    rw [ve.1] at K2
    obtain ⟨n, en⟩ : ∃ n, n = v e := ⟨_, rfl⟩
    have nb : 0 ≤ n ∧ n ≤ 255 := by rw [en]; exact ve.2.2
    rw [← en] at K2
    have KM := c_tb hm T1 b1 e0 eN
    rw [← en] at KM
    obtain ⟨m, em⟩ : ∃ m, m = rh_if (n < 128) (n + 1) (257 - n) := ⟨_, rfl⟩
    have mb : (n < 128 ∧ m = n + 1) ∨ (128 ≤ n ∧ m = 257 - n) := by
      by_cases c : n < 128
      · rw [rh_if_t c] at em; exact .inl ⟨c, em⟩
      · rw [rh_if_f c] at em; exact .inr ⟨(by omega), em⟩
    have fA2 : frx Fpc A (rh_set A1 1 3 (e + 1)) := fA.st (by unfold Fpc; omega)
    have gB2 : frx Gpk B (rh_set B1 0 10 (e + 1)) := gB.st (by unfold Gpk; omega)
    have T2 := T.pc fA2 gB2
    have w1 : rh_set A1 1 3 (e + 1) 8 1 = W := (rh_set_a (by decide)).trans a1
    have w3 : rh_set A1 1 3 (e + 1) 8 2 = H := (rh_set_a (by decide)).trans a2
    have w2 : rh_set B1 0 10 (e + 1) 0 11 = -1 := (rh_set_j (by decide)).trans b2
    have SH : ∀ P : Option Int → rhM → Prop, rx1 wh YX15_read 3 96 [(0, 2, 24), (1, 2, 8), (2, 0, y), (3, 0, x), (5, 0, n), (6, 0, m)] [(0, e), (0, (rh_if ((n ≠ 128) ∧ ((x + m) ≤ W)) (1 : Int) 0)), (2, 1)] (rh_set A1 1 3 (e + 1)) P → rx1 wh YX15_read 3 17 [(0, 2, 24), (1, 2, 8), (2, 0, y), (3, 0, x)] [] A1 P := fun P K => by
      refine rx1.of (rX15_read_17 hh _ _ _ _ bl ?_)
      rw [a1, a3]
      refine ⟨fun _ => rx1.g (vgX15_read_38 hh K2 (LE0 rfl)) ?_, fun z => absurd cx z⟩
      refine rx1.of (rX15_read_41 hh _ _ _ _ _ _ bl ?_)
      rw [← em, w1]
      intro s hs
      rw [hs]
      exact ⟨⟨by omega, by omega⟩, fun _ => ⟨by omega, by omega⟩, K⟩
    have SM : ∀ P : Int → rhM → Prop, rh1 wm YX32_runRow 1 25 [(0, 2, 0), (1, 0, W), (2, 0, y), (3, 0, x), (4, 0, e)] [(0, n)] (rh_set B1 0 10 (e + 1)) P → rh1 wm YX32_runRow 1 2 [(0, 2, 0), (1, 0, W), (2, 0, y), (3, 0, x)] [] B1 P := fun P K => by
      refine rh1.of (rX32_runRow_2 hm _ _ _ _ ?_)
      rw [b1]
      exact ⟨fun _ => rh1.s (vX32_runRow_22 hm KM (LE0 rfl)) K, fun z => absurd ⟨cx, b2⟩ z⟩
    by_cases ok : (n ≠ 128) ∧ ((x + m) ≤ W)
    case neg =>
      refine .inl ⟨e, rh_set (rh_set A1 1 3 (e + 1)) 3 6 e, rh_set (rh_set B1 0 10 (e + 1)) 0 11 e, fun P K => SH P ?_, fun P K => SM P ?_, rh_set_s _ _ _ _, rh_set_s _ _ _ _, ⟨by omega, by omega⟩, fA2.st (by unfold Fpc; omega), gB2.st (by unfold Gpk; omega)⟩
      · rw [rh_if_f ok]
        exact rx1.t (vtX15_read_96 hh (c_mustT hh _) (LE0 rfl)) K
      · have hq : ¬ rh_set (rh_set B1 0 10 (e + 1)) 0 11 e 0 11 = -1 := by rw [rh_set_s]; omega
        refine rh1.of (rX32_runRow_25 hm _ _ _ _ _ _ ?_)
        rw [← em]
        intro s hs
        rw [hs]
        refine ⟨⟨by omega, by omega⟩, fun _ => ⟨fun _ => ⟨by omega, by omega⟩, fun _ => ⟨fun z => absurd z.1 hq, fun _ => MG _ _ _ _ _ _ P hq K⟩, fun z => ?_⟩, fun z => absurd w2 z⟩
        exact absurd ⟨fun q => z (.inl q), Int.not_lt.mp (fun q => z (.inr q))⟩ ok
    have nok : ¬ ((n = 128) ∨ (W < (x + m))) := fun q => by
      rcases q with q | q
      · exact ok.1 q
      · omega
    have SH2 : ∀ P : Option Int → rhM → Prop, rx1 wh YX15_read 3 99 [(0, 2, 24), (1, 2, 8), (2, 0, y), (3, 0, x), (5, 0, n), (6, 0, m)] [] (rh_set A1 1 3 (e + 1)) P → rx1 wh YX15_read 3 17 [(0, 2, 24), (1, 2, 8), (2, 0, y), (3, 0, x)] [] A1 P := fun P K => by
      refine SH P ?_
      rw [rh_if_t ok]
      exact rx1.g (vgX15_read_96 hh (c_must hh (by decide) _) (LE0 rfl)) K
    -- the run itself, then the rest of the row
    have GO : ∀ (vv e' : Int) (A2 B2 : rhM), 0 ≤ vv ∧ vv ≤ 255 → A2 8 1 = W → A2 8 2 = H → A2 1 3 = e' → B2 0 10 = e' → 0 ≤ e' → e' ≤ N → B2 0 11 = -1 → Pxl A2 B2 (W * y + x) → frx Fpc A A2 → frx Gpk B B2 → (∀ P : Option Int → rhM → Prop, rx1 wh YX15_read 3 123 [(0, 2, 24), (1, 2, 8), (2, 0, y), (3, 0, x), (5, 0, n), (6, 0, m), (7, 0, vv), (8, 0, 0)] [] A2 P → rx1 wh YX15_read 3 17 [(0, 2, 24), (1, 2, 8), (2, 0, y), (3, 0, x)] [] A1 P) → (∀ P : Int → rhM → Prop, rh1 wm YX32_runRow 1 109 [(0, 2, 0), (1, 0, W), (2, 0, y), (3, 0, x), (5, 0, n), (6, 0, m), (7, 0, vv), (8, 0, 0)] [] B2 P → rh1 wm YX32_runRow 1 2 [(0, 2, 0), (1, 0, W), (2, 0, y), (3, 0, x)] [] B1 P) → Rwc N W H y A B (fun P => rx1 wh YX15_read 3 17 [(0, 2, 24), (1, 2, 8), (2, 0, y), (3, 0, x)] [] A1 P) (fun M P => rx1 wh YX15_read 3 7 [(0, 2, 24), (1, 2, 8), (2, 0, y + 1)] [] M P) (fun P => rh1 wm YX32_runRow 1 2 [(0, 2, 0), (1, 0, W), (2, 0, y), (3, 0, x)] [] B1 P) := by
      intro vv e' A2 B2 vb c1 c2 c3 c4 c5 c6 c7 c8 c9 c10 JH JM
      have ex : x + (m - 0) = x + m := (by omega)
      rcases t_run hh hm T hW hy hn (n := n) (m := m) ⟨by omega, by omega⟩ vb ok.1 m.toNat 0 x e' A2 B2 (by omega) (by decide) x0 (by omega) c1 c2 c3 c4 c5 c6 c7 c8 c9 c10 with ⟨q, A5, B5, l1, l2, l3⟩ | ⟨e5, A5, B5, l1, l2, ⟨d1, d2, d3, d4⟩, ⟨d5, d6⟩, d7, d8, d9, d10⟩
      · exact .inl ⟨q, A5, B5, fun P K => JH P (l1 P K), fun P K => JM P (l2 P K), l3⟩
      · rw [ex] at l1 l2 d8
        rcases ih (x + m) e5 A5 B5 (by omega) (by omega) ok.2 d5 d6 d1 d2 d3 d4 d7 d8 d9 d10 with ⟨q, A6, B6, p1, p2, p3⟩ | ⟨e6, A6, B6, p1, p2, p3⟩
        · exact .inl ⟨q, A6, B6, fun P K => JH P (l1 P (p1 P K)), fun P K => JM P (l2 P (p2 P K)), p3⟩
        · exact .inr ⟨e6, A6, B6, fun P K => JH P (l1 P (p1 P K)), fun P K => JM P (l2 P (p2 P K)), p3⟩
    have px2 : Pxl (rh_set A1 1 3 (e + 1)) (rh_set B1 0 10 (e + 1)) (W * y + x) := px.fx (rh_set_n (by decide)) (rh_set_n (by decide))
    by_cases c8 : n < 128
    · refine GO 0 (e + 1) _ _ (by decide) w1 w3 (rh_set_s _ _ _ _) (rh_set_s _ _ _ _) (by omega) (by omega) w2 px2 fA2 gB2 (fun P K => SH2 P ?_) (fun P K => SM P ?_)
      · refine rx1.of (rX15_read_99 hh _ _ _ _ _ _ bl ?_)
        exact ⟨fun _ => K, fun z => absurd c8 z⟩
      · refine rh1.of (rX32_runRow_25 hm _ _ _ _ _ _ ?_)
        rw [← em]
        intro s hs
        rw [hs]
        exact ⟨⟨by omega, by omega⟩, fun _ => ⟨fun _ => ⟨by omega, by omega⟩, fun z => absurd z nok, fun _ => ⟨fun z => by omega, fun _ => K⟩⟩, fun z => absurd w2 z⟩
    · have n9 : 128 < n := by have := ok.1; omega
      have SM2 : ∀ P : Int → rhM → Prop, rh1 wm YX32_runRow 1 97 [(0, 2, 0), (1, 0, W), (2, 0, y), (3, 0, x), (5, 0, n), (6, 0, m)] [(2, 0)] (rh_set B1 0 10 (e + 1)) P → rh1 wm YX32_runRow 1 2 [(0, 2, 0), (1, 0, W), (2, 0, y), (3, 0, x)] [] B1 P := fun P K => by
        refine SM P ?_
        refine rh1.of (rX32_runRow_25 hm _ _ _ _ _ _ ?_)
        rw [← em]
        intro s hs
        rw [hs]
        exact ⟨⟨by omega, by omega⟩, fun _ => ⟨fun _ => ⟨by omega, by omega⟩, fun z => absurd z nok, fun _ => ⟨fun _ => K, fun z => absurd ⟨w2, n9⟩ z⟩⟩, fun z => absurd w2 z⟩
      by_cases ce2 : e + 1 = N
      · refine .inl ⟨N, rh_set (rh_set A1 1 3 (e + 1)) 3 6 N, rh_set (rh_set B1 0 10 (e + 1)) 0 11 N, fun P K => SH2 P ?_, fun P K => SM2 P ?_, rh_set_s _ _ _ _, rh_set_s _ _ _ _, ⟨by omega, by omega⟩, fA2.st (by unfold Fpc; omega), gB2.st (by unfold Gpk; omega)⟩
        · have K3 := c_nextT hh (rh_set A1 1 3 (e + 1)) (by rw [rh_set_s, T2.1.1, ce2])
          rw [rh_set_s] at K3
          refine rx1.of (rX15_read_99 hh _ _ _ _ _ _ bl ?_)
          refine ⟨fun z => absurd z c8, fun _ => rx1.t (vtX15_read_115 hh K3 (LE0 rfl)) ?_⟩
          rw [show rh_set (rh_set A1 1 3 (e + 1)) 3 6 (e + 1) = rh_set (rh_set A1 1 3 (e + 1)) 3 6 N by rw [ce2]]
          exact K
        · have hq : ¬ rh_set (rh_set B1 0 10 (e + 1)) 0 11 N 0 11 = -1 := by rw [rh_set_s]; omega
          refine rh1.s (vX32_runRow_97 hm (c_tbN hm T2.1.2.1 (by rw [rh_set_s]; omega) w2) (LE0 rfl)) ?_
          refine rh1.of (rX32_runRow_100 hm _ _ _ _ _ _ _ ?_)
          exact MG _ _ _ _ _ _ P hq K
      · have eN2 : e + 1 < N := (by omega)
        have ve2 := T2.2 (e + 1) (by omega) eN2
        have K3 := c_next hh (k := e + 1) (n := N) (rh_set A1 1 3 (e + 1)) (rh_set_s _ _ _ _) T2.1.1 ⟨by omega, by omega⟩ t4
        rw [ve2.1, set_tt] at K3
        have KM2 := c_tb hm T2 (rh_set_s _ _ _ _) (by omega) eN2
        rw [set_tt] at KM2
        refine GO (v (e + 1)) (e + 1 + 1) (rh_set A1 1 3 (e + 1 + 1)) (rh_set B1 0 10 (e + 1 + 1)) ve2.2.2 ((rh_set_a (by decide)).trans a1) ((rh_set_a (by decide)).trans a2) (rh_set_s _ _ _ _) (rh_set_s _ _ _ _) (by omega) (by omega) ((rh_set_j (by decide)).trans b2) (px.fx (rh_set_n (by decide)) (rh_set_n (by decide))) (fA.st (by unfold Fpc; omega)) (gB.st (by unfold Gpk; omega)) (fun P K => SH2 P ?_) (fun P K => SM2 P ?_)
        · refine rx1.of (rX15_read_99 hh _ _ _ _ _ _ bl ?_)
          refine ⟨fun z => absurd z c8, fun _ => rx1.g (vgX15_read_115 hh K3 (LE0 rfl)) ?_⟩
          refine rx1.of (rX15_read_118 hh _ _ _ _ _ _ _ bl ?_)
          exact K
        · refine rh1.s (vX32_runRow_97 hm KM2 (LE0 rfl)) ?_
          refine rh1.of (rX32_runRow_100 hm _ _ _ _ _ _ _ ?_)
          exact K
end PictR
