/-! ===== LAYER 2: op train ===== -/
section TrainO
variable {wh wm : rhW}
theorem h_over (hh : rh_hs wh) {n r : Int} (A : rhM) (h : ∃ a : Int, 0 ≤ a ∧ a < (95 : Nat) ∧ 1000000 < A 80 a) : eS wh YX18_train 3 65 [(0, 2, 63), (1, 2, 1), (2, 0, n), (3, 0, r), (4, 0, 0)] [] A 88 [] [(0, -1), (0, n), (2, 1), (2, 63)] A := by
  obtain ⟨q, q0, q1, q2, q3⟩ := lst1 95 h
  have w : ∀ (m : Nat) (k : Int), k + m = q → 0 ≤ k → eS wh YX18_train 3 65 [(0, 2, 63), (1, 2, 1), (2, 0, n), (3, 0, r), (4, 0, k)] [] A 88 [] [(0, -1), (0, n), (2, 1), (2, 63)] A := by
    intro m
    induction m with
    | zero =>
      intro k hk k0
      have e : k = q := (by omega)
      rw [e]
      refine eS.of (fun P HP => ?_)
      refine rh1.of (rX18_train_65 hh _ _ _ _ ?_)
      exact ⟨fun _ => ⟨⟨by omega, by omega⟩, fun _ => HP, fun z => absurd q2 z⟩, fun z => by omega⟩
    | succ m ih =>
      intro k hk k0
      refine eS.of (fun P HP => ?_)
      refine rh1.of (rX18_train_65 hh _ _ _ _ ?_)
      exact ⟨fun _ => ⟨⟨by omega, by omega⟩, fun z => absurd z (q3 k k0 (by omega)), fun _ => ⟨⟨by omega, by omega⟩, rh1.s (ih (k + 1) (by omega) (by omega)) HP⟩⟩, fun z => by omega⟩
  exact w q.toNat 0 (by omega) (by omega)
theorem h_under (hh : rh_hs wh) {n r : Int} (A : rhM) (h : ∀ a, 0 ≤ a → a < 95 → A 80 a ≤ 1000000) (P : Int → rhM → Prop) (HP : P r A) : rh1 wh YX18_train 3 65 [(0, 2, 63), (1, 2, 1), (2, 0, n), (3, 0, r), (4, 0, 0)] [] A P := by
  have w : ∀ (m : Nat) (k : Int), k + m = 95 → 0 ≤ k → rh1 wh YX18_train 3 65 [(0, 2, 63), (1, 2, 1), (2, 0, n), (3, 0, r), (4, 0, k)] [] A P := by
    intro m
    induction m with
    | zero =>
      intro k hk k0
      refine rh1.of (rX18_train_65 hh _ _ _ _ ?_)
      exact ⟨fun z => by omega, fun _ => HP⟩
    | succ m ih =>
      intro k hk k0
      have := h k k0 (by omega)
      refine rh1.of (rX18_train_65 hh _ _ _ _ ?_)
      exact ⟨fun _ => ⟨⟨by omega, by omega⟩, fun z => by omega, fun _ => ⟨⟨by omega, by omega⟩, ih (k + 1) (by omega) (by omega)⟩⟩, fun z => by omega⟩
  exact w 95 0 (by omega) (by omega)
theorem m_over (hm : rh_ms wm) {r : Int} (B : rhM) (h : ∃ a : Int, 0 ≤ a ∧ a < (95 : Nat) ∧ 1000000 < B 101 a) (P : Int → rhM → Prop) (HP : P (-104) (rh_set B 0 2 0)) : rh1 wm YX32_train 2 202 [(0, 2, 0), (1, 0, r), (3, 0, 0)] [] B P := by
  obtain ⟨q, q0, q1, q2, q3⟩ := lst1 95 h
  have w : ∀ (m : Nat) (k : Int), k + m = q → 0 ≤ k → rh1 wm YX32_train 2 202 [(0, 2, 0), (1, 0, r), (3, 0, k)] [] B P := by
    intro m
    induction m with
    | zero =>
      intro k hk k0
      have e : k = q := (by omega)
      rw [e]
      refine rh1.of (rX32_train_202 hm _ _ _ ?_)
      exact ⟨fun _ => ⟨⟨by omega, by omega⟩, fun _ => HP, fun z => absurd q2 z⟩, fun z => by omega⟩
    | succ m ih =>
      intro k hk k0
      refine rh1.of (rX32_train_202 hm _ _ _ ?_)
      exact ⟨fun _ => ⟨⟨by omega, by omega⟩, fun z => absurd z (q3 k k0 (by omega)), fun _ => ⟨⟨by omega, by omega⟩, ih (k + 1) (by omega) (by omega)⟩⟩, fun z => by omega⟩
  exact w q.toNat 0 (by omega) (by omega)
theorem m_under (hm : rh_ms wm) {r : Int} (B : rhM) (h : ∀ a, 0 ≤ a → a < 95 → B 101 a ≤ 1000000) : eS wm YX32_train 2 202 [(0, 2, 0), (1, 0, r), (3, 0, 0)] [] B 235 [(0, 2, 0), (1, 0, r), (3, 0, 0)] [] B := by
  have w : ∀ (m : Nat) (k : Int), k + m = 95 → 0 ≤ k → eS wm YX32_train 2 202 [(0, 2, 0), (1, 0, r), (3, 0, k)] [] B 235 [(0, 2, 0), (1, 0, r), (3, 0, 0)] [] B := by
    intro m
    induction m with
    | zero =>
      intro k hk k0
      refine eS.of (fun P HP => ?_)
      refine rh1.of (rX32_train_202 hm _ _ _ ?_)
      exact ⟨fun z => by omega, fun _ => HP⟩
    | succ m ih =>
      intro k hk k0
      have := h k k0 (by omega)
      refine eS.of (fun P HP => ?_)
      refine rh1.of (rX32_train_202 hm _ _ _ ?_)
      exact ⟨fun _ => ⟨⟨by omega, by omega⟩, fun z => by omega, fun _ => ⟨⟨by omega, by omega⟩, rh1.s (ih (k + 1) (by omega) (by omega)) HP⟩⟩, fun z => by omega⟩
  exact w 95 0 (by omega) (by omega)
def Ftn (c j : Int) : Prop := Ftp c j ∨ (c = 3 ∧ j = 6) ∨ c = 79 ∨ c = 80
def Gtn (c j : Int) : Prop := (c = 0 ∧ (j = 0 ∨ j = 2)) ∨ (98 ≤ c ∧ c ≤ 101)
theorem op_train (hh : rh_hs wh) (hm : rh_ms wm) {Mh Mm : rhM} (T : Rtp Mh Mm) (R : Rpp Mh Mm) : rC2 wh YX1_train 4 [(2, 0)] Mh wm YX32_train 2 [(2, 0)] Mm (fun r M' r2 M2' => r = r2 ∧ Rtp M' M2' ∧ Rpp M' M2' ∧ frx Ftn Mh M' ∧ frx Gtn Mm M2') := by
  refine rC2.of (by decide) (LE0 rfl) (by decide) (LE0 rfl) ?_
  obtain ⟨t1, t2, t3, t4⟩ := T
  obtain ⟨N, hN⟩ : ∃ N : Nat, Mm 0 2 = N := ⟨(Mm 0 2).toNat, (by omega)⟩
  rw [hN] at t1 t2 t3 t4
  have e2 : rh_set Mm 0 0 0 0 2 = N := by rw [rh_set_j (by decide)]; exact hN
  have ML := m_trainL hm (v := Mm 1) (n := N) ⟨by omega, by omega⟩ (rh_set Mm 0 0 0) e2 (fun k k0 k1 => rh_set_a (by decide))
  by_cases ok : ∀ k : Int, 0 ≤ k → k < N → okT (Mm 1 k)
  · have pb : ∀ j, 0 ≤ j → j < 9025 → 0 ≤ Mm 98 j ∧ Mm 98 j ≤ 1000000 ∧ Mh 79 j = Mm 98 j := fun j j0 j1 => by
      have z := R.2 (j / 95) (j % 95) (by omega) (by omega) (by omega) (by omega)
      have y := R.1 (j / 95) (by omega) (by omega)
      rw [show 95 * (j / 95) + j % 95 = j by omega] at z
      exact ⟨(by omega), (by omega), z.1⟩
    obtain ⟨r1, A1, K1, hr1, f1, p1, s1⟩ := c_count hh (v := Mm 1) (N := N) (b := 1) (by omega) (.inl rfl) (rh_set Mh 1 3 N) (fun k k0 k1 => by rw [rh_set_a (by decide)]; exact t4 k k0 k1) (fun j j0 j1 => by rw [rh_set_a (by decide)]; have := pb j j0 j1; exact ⟨by omega, by omega⟩) (fun a a0 a1 => by rw [rh_set_a (by decide)]; have := R.1 a a0 a1; exact ⟨by omega, by omega⟩)
    rw [hr1] at K1
    obtain ⟨B1, EB1, g1, u1, u2⟩ := m_trainC hm (v := Mm 1) (N := N) (by omega) (rh_set Mm 0 0 0) e2 (fun k k0 k1 => rh_set_a (by decide)) ok (fun j j0 j1 => by rw [rh_set_a (by decide)]; have := pb j j0 j1; exact ⟨by omega, by omega⟩) (fun a a0 a1 => by rw [rh_set_a (by decide)]; have := R.1 a a0 a1; exact ⟨by omega, by omega⟩)
    have es : ∀ a, 0 ≤ a → a < 95 → A1 80 a = B1 101 a := fun a a0 a1 => by
      rw [s1 a, u2 a a0 a1, rh_set_a (by decide), rh_set_a (by decide), (R.1 a a0 a1).1]; omega
    have ep : ∀ j, 0 ≤ j → j < 9025 → A1 79 j = B1 100 j := fun j j0 j1 => by
      rw [p1 j, u1 j j0 j1, rh_set_a (by decide), rh_set_a (by decide), (pb j j0 j1).2.2]; omega
    have EH := h_trainS hh (v := Mm 1) (n := N) ⟨by omega, by omega⟩ Mh t1 (fun k k0 k1 => (t4 k k0 k1).1) ok
    by_cases ov : ∃ a : Int, 0 ≤ a ∧ a < (95 : Nat) ∧ 1000000 < A1 80 a
    · obtain ⟨r2, A2, K2, -, f2, p2, s2⟩ := c_count hh (v := Mm 1) (N := N) (b := -1) (by omega) (.inr rfl) A1 (fun k k0 k1 => by rw [f1 2 k (by omega), rh_set_a (by decide)]; exact t4 k k0 k1) (fun j j0 j1 => by
        rw [p1 j, rh_set_a (by decide)]
        have := pb j j0 j1
        have := ctp_b (prP (Mm 1) N j) (N + 1)
        exact ⟨by omega, by omega⟩) (fun a a0 a1 => by
        rw [s1 a, rh_set_a (by decide)]
        have := R.1 a a0 a1
        have := ctp_b (prT (Mm 1) N a) (N + 1)
        exact ⟨by omega, by omega⟩)
      have KT : eC wh YX18_train 3 [(2, 63), (2, 1)] Mh (-104) A2 := eC.of1 (rC1.of (by decide) (LE0 rfl) (by
        refine rh1.s EH ?_
        refine rh1.s (vX18_train_58 hh K1 (LE0 rfl)) ?_
        refine rh1.of (rX18_train_61 hh _ _ _ ?_)
        refine rh1.s (h_over hh A1 ov) ?_
        refine rh1.s (vX18_train_88 hh K2 (LE0 rfl)) ?_
        refine rh1.of (rX18_train_91 hh _ _ ?_)
        exact ⟨rfl, rfl⟩))
      have b1 : ∀ j, A2 79 j = Mh 79 j := fun j => by rw [p2 j, p1 j, rh_set_a (by decide)]; omega
      have b2 : ∀ a, A2 80 a = Mh 80 a := fun a => by rw [s2 a, s1 a, rh_set_a (by decide)]; omega
      have fA : frx Ftn Mh A2 := ((frx.rf.st (by unfold Ftn Ftp; omega)).tr (f1.w (fun c j h => by unfold Ftn; omega))).tr (f2.w (fun c j h => by unfold Ftn; omega))
      refine rh2.l (rX1_train_0 hh _ ?_)
      refine rh2.sl (vX1_train_8 hh KT (LE0 rfl)) ?_
      refine rh2.l (rX1_train_11 hh _ _ ?_)
      refine rh1.of (rX32_train_0 hm _ ?_)
      refine rh1.s (ML.2 ok) ?_
      refine rh1.s EB1 ?_
      refine m_over hm B1 ?_ _ ?_
      · obtain ⟨a, a0, a1, a2⟩ := ov
        exact ⟨a, a0, a1, by rw [← es a a0 (by omega)]; exact a2⟩
      · have gB : frx Gtn Mm B1 := (frx.rf.st (by unfold Gtn; omega)).tr (g1.w (fun c j h => by unfold Gtn; omega))
        refine ⟨rfl, Rtp.use (Mh := Mh) (Mm := Mm) (rh_set_s _ _ _ _) (rh_set_s _ _ _ _), R.fx ?_ ?_ ?_ ?_, fA.st (by unfold Ftn Ftp; omega), gB.st (by unfold Gtn; omega)⟩
        · rw [rh_set_n (by decide)]; exact funext b1
        · rw [rh_set_n (by decide)]; exact funext b2
        · rw [rh_set_n (by decide), g1.cell (a := 98) (fun j => (by omega)), rh_set_n (by decide)]
        · rw [rh_set_n (by decide), g1.cell (a := 99) (fun j => (by omega)), rh_set_n (by decide)]
    · have un : ∀ a, 0 ≤ a → a < 95 → A1 80 a ≤ 1000000 := fun a a0 a1 => by
        by_cases z : A1 80 a ≤ 1000000
        · exact z
        · exact absurd ⟨a, a0, (by omega), (by omega)⟩ ov
      have KT : eC wh YX18_train 3 [(2, 63), (2, 1)] Mh (ctp (prN (Mm 1) N) (N + 1)) A1 := eC.of1 (rC1.of (by decide) (LE0 rfl) (by
        refine rh1.s EH ?_
        refine rh1.s (vX18_train_58 hh K1 (LE0 rfl)) ?_
        refine rh1.of (rX18_train_61 hh _ _ _ ?_)
        exact h_under hh A1 un _ ⟨rfl, rfl⟩))
      obtain ⟨B2, EB2, g2, q1, q2⟩ := m_trainK hm (r := ctp (prN (Mm 1) N) (N + 1)) B1
      have fA : frx Ftn Mh A1 := (frx.rf.st (by unfold Ftn Ftp; omega)).tr (f1.w (fun c j h => by unfold Ftn; omega))
      have gB : frx Gtn Mm B2 := ((frx.rf.st (by unfold Gtn; omega)).tr (g1.w (fun c j h => by unfold Gtn; omega))).tr (g2.w (fun c j h => by unfold Gtn; omega))
      refine rh2.l (rX1_train_0 hh _ ?_)
      refine rh2.sl (vX1_train_8 hh KT (LE0 rfl)) ?_
      refine rh2.l (rX1_train_11 hh _ _ ?_)
      refine rh1.of (rX32_train_0 hm _ ?_)
      refine rh1.s (ML.2 ok) ?_
      refine rh1.s EB1 ?_
      refine rh1.s (m_under hm B1 (fun a a0 a1 => by rw [← es a a0 a1]; exact un a a0 a1)) ?_
      refine EB2 _ ⟨rfl, Rtp.use (Mh := Mh) (Mm := Mm) (rh_set_s _ _ _ _) (rh_set_s _ _ _ _), ⟨fun a a0 a1 => ?_, fun a b a0 a1 b0 b1 => ?_⟩, fA.st (by unfold Ftn Ftp; omega), gB.st (by unfold Gtn; omega)⟩
      · rw [rh_set_a (by decide), rh_set_a (by decide), q2 a a0 a1, ← es a a0 a1]
        have := un a a0 a1
        refine ⟨rfl, ?_, this⟩
        rw [s1 a, rh_set_a (by decide)]
        have := R.1 a a0 a1
        have := ctp_b (prT (Mm 1) N a) (N + 1)
        omega
      · rw [rh_set_a (by decide), rh_set_a (by decide), rh_set_a (by decide), q2 a a0 a1, q1 (95 * a + b) (by omega) (by omega), ← es a a0 a1, ← ep (95 * a + b) (by omega) (by omega)]
        refine ⟨rfl, ?_, ?_⟩
        · rw [p1, rh_set_a (by decide)]
          have := pb (95 * a + b) (by omega) (by omega)
          have := ctp_b (prP (Mm 1) N (95 * a + b)) (N + 1)
          omega
        · rw [p1, s1, rh_set_a (by decide), rh_set_a (by decide), (R.1 a a0 a1).1]
          have := R.2 a b a0 a1 b0 b1
          have le := ctp_le (P := prP (Mm 1) N (95 * a + b)) (Q := prT (Mm 1) N a) (N + 1) (fun k k0 k1 hk => by
            refine ⟨hk.1, ?_⟩
            have h := hk.2
            have y1 := six_b (sgn_b (v := Mm 1) (n := N) (k - 1))
            have y2 := six_b (sgn_b (v := Mm 1) (n := N) k)
            omega)
          omega
  · have ex : ∃ f : Int, 0 ≤ f ∧ f < N ∧ ¬ okT (Mm 1 f) := by
      refine Classical.byContradiction (fun h => ok (fun k k0 k1 => ?_))
      exact Classical.byContradiction (fun g => h ⟨k, k0, k1, g⟩)
    obtain ⟨q, q0, q1, q2, q3⟩ := lst1 N ex
    have ok' : ∀ k, 0 ≤ k → k < q → okT (Mm 1 k) := fun k k0 k1 => Classical.byContradiction (q3 k k0 k1)
    have E := h_trainT hh (v := Mm 1) (n := N) (q := q) (by omega) Mh t1 (fun k k0 k1 => (t4 k k0 k1).1) ⟨q0, q1⟩ ok' q2
    refine rh2.l (rX1_train_0 hh _ ?_)
    refine rh2.sl ((vcX1_train_8 hh E (LE0 rfl)).toS) ?_
    refine rh2.l (rX1_train_22 hh _ ?_)
    rw [rh_set_s]
    refine ⟨⟨by omega, by omega⟩, ?_⟩
    refine rh1.of (rX32_train_0 hm _ ?_)
    refine ML.1 q q0 q1 ok' q2 _ ⟨rfl, Rtp.use (Mh := Mh) (Mm := Mm) (rh_set_s _ _ _ _) (rh_set_s _ _ _ _), R.fx ?_ ?_ ?_ ?_, ?_, (frx.rf.st (by unfold Gtn; omega)).st (by unfold Gtn; omega)⟩
    · rw [rh_set_n (by decide), rh_set_n (by decide), rh_set_n (by decide)]
    · rw [rh_set_n (by decide), rh_set_n (by decide), rh_set_n (by decide)]
    · rw [rh_set_n (by decide), rh_set_n (by decide)]
    · rw [rh_set_n (by decide), rh_set_n (by decide)]
    · exact ((frx.rf.st (by unfold Ftn Ftp; omega)).st (by unfold Ftn; omega)).st (by unfold Ftn Ftp; omega)
end TrainO
