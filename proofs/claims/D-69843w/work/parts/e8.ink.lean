/-! ===== LAYER 2: ink ===== -/
section Ink
variable {wh wm : rhW}
/-- a black pixel of the model's page; black at or beside a pixel -/
def Bkp (M : rhM) (p x y : Int) : Prop := (0 ≤ x ∧ (0 ≤ y ∧ (x < M 4 p ∧ y < M 5 p))) ∧ M 3 (6144 * p + (M 4 p * y + x)) < 128
def Nbk (M : rhM) (p x y k0 k1 : Int) : Prop := ∃ k, (k0 ≤ k ∧ k < k1) ∧ Bkp M p (x + k % 3 - 1) (y + k / 3 - 1)
theorem c_blkM (hm : rh_ms wm) {p x y : Int} (hp : 0 ≤ p ∧ p < 8) (M : rhM) (h4 : 0 ≤ M 4 p ∧ 0 ≤ M 4 p * M 5 p ∧ M 4 p * M 5 p ≤ 6144) : eC wm YX32_isBlack 1 [(2, 0), (0, p), (0, x), (0, y)] M (rh_if (Bkp M p x y) 1 0) M := by
  refine eC.of1 (rC1.of (by decide) (LE0 rfl) ?_)
  refine rh1.of (rX32_isBlack_0 hm _ _ _ _ ?_)
  have e : 6144 * p + y * M 4 p + x = 6144 * p + (M 4 p * y + x) := by
    rw [Int.mul_comm y (M 4 p)]
    omega
  rw [e]
  refine ⟨fun _ _ => hp, fun _ _ _ => hp, fun _ => hp, fun z => ?_, rfl, rfl⟩
  have h1 := mul_lt (a := M 4 p) (b := M 5 p) (x := x) (y := y) (by omega) (by omega) (by omega) (by omega)
  have h2 := Int.mul_nonneg h4.1 z.2.1
  exact ⟨by omega, by omega⟩
/-- the house's test of a pixel -/
theorem blk_h {Mh Mm : rhM} {q p u v : Int} (R : Rp Mh Mm q p) : (((0 ≤ u) ∧ ((u < Mh q 1) ∧ ((0 ≤ v) ∧ (v < Mh q 2)))) ∧ (rh_and (Mh (q + 1) (Mh q 1 * v + u)) 255 < 128)) ↔ Bkp Mm p u v := by
  obtain ⟨r1, r2, r3, r4, r5, r6, r7, r8, r9, r10⟩ := R
  unfold Bkp
  rw [r1, r2]
  constructor
  · rintro ⟨h1, h2⟩
    have k1 := mul_lt (a := Mm 4 p) (b := Mm 5 p) (x := u) (y := v) (by omega) (by omega) (by omega) (by omega)
    have k2 := Int.mul_nonneg r3 h1.2.2.1
    rw [(r10 (Mm 4 p * v + u) (by omega) k1).1] at h2
    exact ⟨by omega, h2⟩
  · rintro ⟨h1, h2⟩
    have k1 := mul_lt (a := Mm 4 p) (b := Mm 5 p) (x := u) (y := v) (by omega) (by omega) (by omega) (by omega)
    have k2 := Int.mul_nonneg r3 h1.2.1
    rw [(r10 (Mm 4 p * v + u) (by omega) k1).1]
    exact ⟨by omega, h2⟩
theorem blk_r {Mh Mm : rhM} {q p u v : Int} (R : Rp Mh Mm q p) (h : (0 ≤ u) ∧ ((u < Mh q 1) ∧ ((0 ≤ v) ∧ (v < Mh q 2)))) : 0 ≤ Mh q 1 * v + u ∧ Mh q 1 * v + u < 6144 := by
  obtain ⟨r1, r2, r3, r4, r5, r6, r7, r8, -⟩ := R
  rw [r1, r2] at h
  rw [r1]
  have k1 := mul_lt (a := Mm 4 p) (b := Mm 5 p) (x := u) (y := v) (by omega) (by omega) (by omega) (by omega)
  have k2 := Int.mul_nonneg r3 h.2.2.1
  omega
theorem Nbk_s {M : rhM} {p x y k : Int} (h : 0 ≤ k) : Nbk M p x y 0 (k + 1) ↔ Nbk M p x y 0 k ∨ Bkp M p (x + k % 3 - 1) (y + k / 3 - 1) := by
  constructor
  · rintro ⟨j, a, b⟩
    by_cases e : j = k
    · rw [e] at b; exact .inr b
    · exact .inl ⟨j, by omega, b⟩
  · rintro (⟨j, a, b⟩ | b)
    · exact ⟨j, by omega, b⟩
    · exact ⟨k, by omega, b⟩
theorem c_beside (hh : rh_hs wh) {Mh Mm : rhM} {q p x y : Int} (hq : rh_bl wh 5 q 0) (R : Rp Mh Mm q p) (hx : -1000 ≤ x ∧ x ≤ 1000) (hy : -1000 ≤ y ∧ y ≤ 1000) : eC wh YX1_isBeside 2 [(2, q), (0, x), (0, y)] Mh (rh_if (Nbk Mm p x y 0 9) 1 0) Mh := by
  refine eC.of1 (rC1.of (by decide) (LE0 rfl) ?_)
  have w : ∀ (u : Nat) (k : Int), k + u = 9 → 0 ≤ k → rh1 wh YX1_isBeside 2 5 [(0, 2, q), (1, 0, x), (2, 0, y), (3, 0, rh_if (Nbk Mm p x y 0 k) 1 0), (4, 0, k)] [] Mh (fun r M' => r = rh_if (Nbk Mm p x y 0 9) 1 0 ∧ M' = Mh) := by
    intro u
    induction u with
    | zero =>
      intro k hk k0
      have e : k = 9 := by omega
      rw [e]
      refine rh1.of (rX1_isBeside_5 hh _ _ _ _ _ _ hq ?_)
      refine ⟨fun z => by omega, fun _ => ⟨?_, rfl, rfl⟩⟩
      by_cases z : Nbk Mm p x y 0 9
      · rw [rh_if_t z]; decide
      · rw [rh_if_f z]; decide
    | succ u ih =>
      intro k hk k0
      refine rh1.of (rX1_isBeside_5 hh _ _ _ _ _ _ hq ?_)
      refine ⟨fun _ => ⟨⟨by omega, by omega⟩, ⟨by omega, by omega⟩, ⟨by omega, by omega⟩, ⟨by omega, by omega⟩, fun z => by have := blk_r R z; exact ⟨by omega, by omega⟩, fun z => blk_r R z, ?_⟩, fun z => by omega⟩
      rw [or_if]
      intro v hv
      have ev : v = rh_if (Nbk Mm p x y 0 (k + 1)) 1 0 := by
        rw [hv]
        congr 1
        apply propext
        rw [Nbk_s k0, blk_h R]
      rw [ev]
      exact ⟨⟨by omega, by omega⟩, ih (k + 1) (by omega) (by omega)⟩
  refine rh1.of (rX1_isBeside_0 hh _ _ _ _ hq ?_)
  have := w 9 0 (by decide) (by decide)
  rwa [rh_if_f (show ¬ Nbk Mm p x y 0 0 from fun ⟨k, a, _⟩ => by omega)] at this
theorem c_nearInk (hm : rh_ms wm) {p x y : Int} (hp : 0 ≤ p ∧ p < 8) (M : rhM) (h4 : 0 ≤ M 4 p ∧ 0 ≤ M 4 p * M 5 p ∧ M 4 p * M 5 p ≤ 6144) (hx : -1000 ≤ x ∧ x ≤ 1000) (hy : -1000 ≤ y ∧ y ≤ 1000) : eC wm YX32_isNearInk 2 [(2, 0), (0, p), (0, x), (0, y)] M (rh_if (Nbk M p x y 0 9) 1 0) M := by
  refine eC.of1 (rC1.of (by decide) (LE0 rfl) ?_)
  have w : ∀ (u : Nat) (k : Int), k + u = 9 → 0 ≤ k → ¬ Nbk M p x y 0 k → rh1 wm YX32_isNearInk 2 3 [(0, 2, 0), (1, 0, p), (2, 0, x), (3, 0, y), (4, 0, k)] [] M (fun r M' => r = rh_if (Nbk M p x y 0 9) 1 0 ∧ M' = M) := by
    intro u
    induction u with
    | zero =>
      intro k hk k0 nb
      have e : k = 9 := by omega
      rw [e] at nb ⊢
      refine rh1.of (rX32_isNearInk_3 hm _ _ _ _ _ ?_)
      exact ⟨fun z => by omega, fun _ => ⟨by rw [rh_if_f nb], rfl⟩⟩
    | succ u ih =>
      intro k hk k0 nb
      refine rh1.of (rX32_isNearInk_3 hm _ _ _ _ _ ?_)
      refine ⟨fun _ => ⟨⟨by omega, by omega⟩, ⟨by omega, by omega⟩, ?_⟩, fun z => by omega⟩
      refine rh1.s (eS.fx 0 (x := y + k / 3 - 1) rfl ⟨by omega, by omega⟩ rfl) ?_
      refine rh1.s (eS.fx 1 (x := x + k % 3 - 1) rfl ⟨by omega, by omega⟩ rfl) ?_
      refine rh1.s (vX32_isNearInk_28 hm (c_blkM hm (x := x + k % 3 - 1) (y := y + k / 3 - 1) hp M h4) (LE0 rfl)) ?_
      refine rh1.of (rX32_isNearInk_31 hm _ _ _ _ _ _ ?_)
      by_cases b : Bkp M p (x + k % 3 - 1) (y + k / 3 - 1)
      · rw [rh_if_t b]
        exact ⟨fun _ => ⟨by rw [rh_if_t ⟨k, by omega, b⟩], rfl⟩, fun z => absurd (show (1 : Int) ≠ 0 by decide) z⟩
      · rw [rh_if_f b]
        exact ⟨fun z => absurd rfl z, fun _ => ⟨⟨by omega, by omega⟩, ih (k + 1) (by omega) (by omega) (fun z => ((Nbk_s k0).mp z).elim nb b)⟩⟩
  refine rh1.of (rX32_isNearInk_0 hm _ _ _ _ ?_)
  exact w 9 0 (by decide) (by decide) (fun ⟨k, a, _⟩ => by omega)
theorem op_ink (hh : rh_hs wh) (hm : rh_ms wm) {Mh Mm : rhM} (R : Rpg Mh Mm) (x1 x2 x3 x4 x5 x6 : Int) (hr : rI x3 ∧ rI x4 ∧ rI x5 ∧ rI x6) : rC2 wh YX1_ink 3 [(2, 0), (0, x1), (0, x2), (0, x3), (0, x4), (0, x5), (0, x6)] Mh wm YX32_ink 3 [(2, 0), (0, x1), (0, x2), (0, x3), (0, x4), (0, x5), (0, x6)] Mm (fun r M' r2 M2' => r = r2 ∧ M' = Mh ∧ M2' = rh_set Mm 0 0 0) := by
  refine rC2.of (by decide) (LE0 rfl) (by decide) (LE0 rfl) ?_
  obtain ⟨M0, hM0⟩ : ∃ M0, M0 = rh_set Mm 0 0 0 := ⟨_, rfl⟩
  have en : ∀ c k, 0 < c → M0 c k = Mm c k := fun c k h => by rw [hM0]; exact rh_set_a (by omega)
  have R0 : Rpg Mh M0 := R.fx (F := fun _ _ => False) (G := fun c j => c = 0 ∧ j = 0) frx.rf (by rw [hM0]; exact frx.rf.st ⟨rfl, rfl⟩) (fun p a j _ _ hf => hf.elim) (fun a j hf => by omega)
  have i1 := R0.is x1
  have i2 := R0.is x2
  rw [← hM0]
  refine rh2.l (rX1_ink_0 hh _ _ _ _ _ _ _ ?_)
  refine ⟨fun _ => ⟨by omega, by omega⟩, fun _ _ => ⟨by omega, by omega⟩, fun c => ?_, fun c => ⟨?_, ?_⟩⟩
  · refine rh1.of (rX32_ink_0 hm _ _ _ _ _ _ _ ?_)
    rw [← hM0]
    rw [i1, i2] at c
    exact ⟨fun _ => ⟨by omega, by omega⟩, fun _ _ => ⟨by omega, by omega⟩, fun _ => ⟨rfl, rfl, rfl⟩, fun z => absurd c z⟩
  · rw [i1] at c
    have := Classical.byContradiction (fun z => c (.inl z))
    exact ⟨by omega, by omega⟩
  rw [i1, i2] at c
  have p1 : ((0 ≤ x1) ∧ (x1 ≤ 7)) ∧ (0 < M0 4 x1) := Classical.byContradiction (fun z => c (.inl z))
  have p2 : ((0 ≤ x2) ∧ (x2 ≤ 7)) ∧ (0 < M0 4 x2) := Classical.byContradiction (fun z => c (.inr z))
  have hp1 : 0 ≤ x1 ∧ x1 < 8 := by omega
  have hp2 : 0 ≤ x2 ∧ x2 < 8 := by omega
  have Q1 := (R0 x1 hp1.1 hp1.2).1
  have Q2 := (R0 x2 hp2.1 hp2.2).1
  obtain ⟨q1, q2, q3, q4, q5, q6, q7, q8, -⟩ := id Q1
  obtain ⟨s1, s2, s3, s4, s5, s6, s7, s8, -⟩ := id Q2
  have KH := c_boxH hh (x := x3) (y := x4) (u := x5) (v := x6) (hs_pgs hh hp1.1 hp1.2) Mh (by rw [q1]; omega) (by rw [q2]; omega)
  have KM := c_boxM hm (p := x1) (x := x3) (y := x4) (u := x5) (v := x6) hp1 M0 hr
  rw [q1, q2] at KH
  have MS : ∀ P : Int → rhM → Prop, rh1 wm YX32_ink 3 36 [(0, 2, 0), (1, 0, x1), (2, 0, x2), (3, 0, x3), (4, 0, x4), (5, 0, x5), (6, 0, x6)] [(0, rh_if (inBox (M0 4 x1) (M0 5 x1) x3 x4 x5 x6) 1 0)] M0 P → rh1 wm YX32_ink 3 0 [(0, 2, 0), (1, 0, x1), (2, 0, x2), (3, 0, x3), (4, 0, x4), (5, 0, x5), (6, 0, x6)] [] Mm P := fun P HP => by
    refine rh1.of (rX32_ink_0 hm _ _ _ _ _ _ _ ?_)
    rw [← hM0]
    exact ⟨fun _ => ⟨by omega, by omega⟩, fun _ _ => ⟨by omega, by omega⟩, fun z => absurd z c, fun _ => rh1.s (vX32_ink_33 hm KM (LE0 rfl)) HP⟩
  refine rh2.sl (vX1_ink_32 (hs_pg hh hp1.1 hp1.2) KH (LE0 rfl)) ?_
  refine rh2.l (rX1_ink_35 hh _ _ _ _ _ _ _ _ ?_)
  by_cases bx : inBox (M0 4 x1) (M0 5 x1) x3 x4 x5 x6
  case neg =>
    rw [rh_if_f bx]
    refine ⟨fun _ => MS _ ?_, fun z => absurd rfl z⟩
    rw [rh_if_f bx]
    refine rh1.of (rX32_ink_36 hm _ _ _ _ _ _ _ _ ?_)
    refine ⟨⟨by omega, by omega⟩, ⟨by omega, by omega⟩, fun _ => ⟨by omega, by omega⟩, fun _ => ⟨by omega, by omega⟩, ?_⟩
    intro v hv
    exact ⟨fun _ => ⟨by rw [rh_if_t rfl], rfl, rfl⟩, fun z => absurd (.inl rfl) z⟩
  rw [rh_if_t bx, q1, q2, s1, s2]
  refine ⟨fun z => by omega, fun _ => ⟨⟨by omega, by omega⟩, ⟨by omega, by omega⟩, fun d => ?_, fun d => ?_⟩⟩
  · refine MS _ ?_
    rw [rh_if_t bx]
    refine rh1.of (rX32_ink_36 hm _ _ _ _ _ _ _ _ ?_)
    refine ⟨⟨by omega, by omega⟩, ⟨by omega, by omega⟩, fun _ => ⟨by omega, by omega⟩, fun _ => ⟨by omega, by omega⟩, ?_⟩
    rw [rh_if_f d]
    (intro zq hzq; replace hzq := hzq.symm; subst hzq)
    exact ⟨fun _ => ⟨by rw [rh_if_f (by decide)], rfl, rfl⟩, fun z => absurd (.inr rfl) z⟩
  have d' : (M0 4 x1 = M0 4 x2) ∧ (M0 5 x1 = M0 5 x2) := Classical.byContradiction d
  have bb : (0 ≤ x3 ∧ 0 < x5 ∧ x3 + x5 ≤ 128) ∧ (0 ≤ x4 ∧ 0 < x6 ∧ x4 + x6 ≤ 96) := by
    unfold inBox at bx
    omega
  have h41 : 0 ≤ M0 4 x1 ∧ 0 ≤ M0 4 x1 * M0 5 x1 ∧ M0 4 x1 * M0 5 x1 ≤ 6144 := ⟨q3, q7, q8⟩
  have h42 : 0 ≤ M0 4 x2 ∧ 0 ≤ M0 4 x2 * M0 5 x2 ∧ M0 4 x2 * M0 5 x2 ≤ 6144 := ⟨s3, s7, s8⟩
  have row : ∀ (y : Int), (0 ≤ y ∧ y ≤ 100) → ∀ (m : Nat) (u t : Int), u + m = x3 + x5 → 0 ≤ u → (0 ≤ t ∧ t + m ≤ 100000) → ∃ t', eS wh YX1_ink 3 82 [(0, 2, 0), (1, 0, x1), (2, 0, x2), (3, 0, x3), (4, 0, x4), (5, 0, x5), (6, 0, x6), (7, 0, t), (8, 0, y), (9, 0, u)] [] Mh 82 [(0, 2, 0), (1, 0, x1), (2, 0, x2), (3, 0, x3), (4, 0, x4), (5, 0, x5), (6, 0, x6), (7, 0, t'), (8, 0, y), (9, 0, x3 + x5)] [] Mh ∧ eS wm YX32_ink 3 118 [(0, 2, 0), (1, 0, x1), (2, 0, x2), (3, 0, x3), (4, 0, x4), (5, 0, x5), (6, 0, x6), (9, 0, t), (10, 0, y), (11, 0, u)] [] M0 118 [(0, 2, 0), (1, 0, x1), (2, 0, x2), (3, 0, x3), (4, 0, x4), (5, 0, x5), (6, 0, x6), (9, 0, t'), (10, 0, y), (11, 0, x3 + x5)] [] M0 ∧ t ≤ t' ∧ t' ≤ t + m := by
    intro y hy m
    induction m with
    | zero =>
      intro u t hu u0 ht
      have e : u = x3 + x5 := by omega
      rw [e]
      exact ⟨t, eS.rf, eS.rf, by omega, by omega⟩
    | succ m ih =>
      intro u t hu u0 ht
      have K1 := c_blkM hm (x := u) (y := y) hp1 M0 h41
      have K2 := c_nearInk hm (x := u) (y := y) hp2 M0 h42 ⟨by omega, by omega⟩ ⟨by omega, by omega⟩
      have K3 := c_beside hh (x := u) (y := y) (hs_pgs hh hp2.1 hp2.2) Q2 ⟨by omega, by omega⟩ ⟨by omega, by omega⟩
      by_cases b : Bkp M0 x1 u y
      · obtain ⟨n, hn⟩ : ∃ n, n = rh_if (Nbk M0 x2 u y 0 9) (1 : Int) 0 := ⟨_, rfl⟩
        rw [← hn] at K2 K3
        have nb : rh_if (n = 0) (1 : Int) 0 = 0 ∨ rh_if (n = 0) (1 : Int) 0 = 1 := by
          by_cases z : n = 0
          · exact .inr (rh_if_t z)
          · exact .inl (rh_if_f z)
        obtain ⟨t', E1, E2, E3⟩ := ih (u + 1) (t + rh_if (n = 0) 1 0) (by omega) (by omega) ⟨by omega, by omega⟩
        refine ⟨t', eS.of (fun P HP => ?_), eS.of (fun P HP => ?_), by omega, by omega⟩
        · refine rh1.of (rX1_ink_82 hh _ _ _ _ _ _ _ _ _ _ ?_)
          refine ⟨⟨by omega, by omega⟩, fun _ => ⟨⟨by omega, by omega⟩, fun z => by have := blk_r Q1 z; exact ⟨by omega, by omega⟩, fun z => blk_r Q1 z, fun _ => ⟨⟨by omega, by omega⟩, ?_⟩, fun z => absurd ((blk_h Q1).mpr b) z⟩, fun z => by omega⟩
          refine rh1.s (vX1_ink_119 K3 (LE0 rfl)) ?_
          refine rh1.of (rX1_ink_122 hh _ _ _ _ _ _ _ _ _ _ _ ?_)
          (intro zq hzq; replace hzq := hzq.symm; subst hzq)
          exact ⟨⟨by omega, by omega⟩, ⟨by omega, by omega⟩, rh1.s E1 HP⟩
        · refine rh1.of (rX32_ink_118 hm _ _ _ _ _ _ _ _ _ _ ?_)
          refine ⟨⟨by omega, by omega⟩, fun _ => ?_, fun z => by omega⟩
          rw [rh_if_t b] at K1
          refine rh1.s (vX32_ink_135 hm K1 (LE0 rfl)) ?_
          refine rh1.of (rX32_ink_138 hm _ _ _ _ _ _ _ _ _ _ _ ?_)
          refine ⟨fun _ => ?_, fun z => absurd (show (1 : Int) ≠ 0 by decide) z⟩
          refine rh1.s (vX32_ink_147 hm K2 (LE0 rfl)) ?_
          refine rh1.of (rX32_ink_150 hm _ _ _ _ _ _ _ _ _ _ _ ?_)
          (intro zq hzq; replace hzq := hzq.symm; subst hzq)
          exact ⟨⟨by omega, by omega⟩, ⟨by omega, by omega⟩, rh1.s E2 HP⟩
      · obtain ⟨t', E1, E2, E3⟩ := ih (u + 1) t (by omega) (by omega) ⟨by omega, by omega⟩
        refine ⟨t', eS.of (fun P HP => ?_), eS.of (fun P HP => ?_), by omega, by omega⟩
        · refine rh1.of (rX1_ink_82 hh _ _ _ _ _ _ _ _ _ _ ?_)
          refine ⟨⟨by omega, by omega⟩, fun _ => ⟨⟨by omega, by omega⟩, fun z => by have := blk_r Q1 z; exact ⟨by omega, by omega⟩, fun z => blk_r Q1 z, fun z => absurd ((blk_h Q1).mp z) b, fun _ => ?_⟩, fun z => by omega⟩
          rw [show t + 0 = t by omega]
          (intro zq hzq; replace hzq := hzq.symm; subst hzq)
          exact ⟨⟨by omega, by omega⟩, ⟨by omega, by omega⟩, rh1.s E1 HP⟩
        · refine rh1.of (rX32_ink_118 hm _ _ _ _ _ _ _ _ _ _ ?_)
          refine ⟨⟨by omega, by omega⟩, fun _ => ?_, fun z => by omega⟩
          rw [rh_if_f b] at K1
          refine rh1.s (vX32_ink_135 hm K1 (LE0 rfl)) ?_
          refine rh1.of (rX32_ink_138 hm _ _ _ _ _ _ _ _ _ _ _ ?_)
          refine ⟨fun z => absurd rfl z, fun _ => ?_⟩
          rw [show t + 0 = t by omega]
          (intro zq hzq; replace hzq := hzq.symm; subst hzq)
          exact ⟨⟨by omega, by omega⟩, ⟨by omega, by omega⟩, rh1.s E2 HP⟩
  have all : ∀ (m : Nat) (y t : Int), y + m = x4 + x6 → 0 ≤ y → (0 ≤ t ∧ t ≤ 128 * y) → ∃ t', (∀ P : Int → rhM → Prop, P t' Mh → rh1 wh YX1_ink 3 69 [(0, 2, 0), (1, 0, x1), (2, 0, x2), (3, 0, x3), (4, 0, x4), (5, 0, x5), (6, 0, x6), (7, 0, t), (8, 0, y)] [] Mh P) ∧ (∀ P : Int → rhM → Prop, P t' M0 → rh1 wm YX32_ink 3 105 [(0, 2, 0), (1, 0, x1), (2, 0, x2), (3, 0, x3), (4, 0, x4), (5, 0, x5), (6, 0, x6), (9, 0, t), (10, 0, y)] [] M0 P) := by
    intro m
    induction m with
    | zero =>
      intro y t hy y0 ht
      refine ⟨t, fun P HP => ?_, fun P HP => ?_⟩
      · refine rh1.of (rX1_ink_69 hh _ _ _ _ _ _ _ _ _ ?_)
        exact ⟨⟨by omega, by omega⟩, fun z => by omega, fun _ => HP⟩
      · refine rh1.of (rX32_ink_105 hm _ _ _ _ _ _ _ _ _ ?_)
        exact ⟨⟨by omega, by omega⟩, fun z => by omega, fun _ => HP⟩
    | succ m ih =>
      intro y t hy y0 ht
      obtain ⟨t1, E1, E2, b1, b2⟩ := row y ⟨by omega, by omega⟩ x5.toNat x3 t (by omega) (by omega) ⟨by omega, by omega⟩
      obtain ⟨t', H1, H2⟩ := ih (y + 1) t1 (by omega) (by omega) ⟨by omega, by omega⟩
      refine ⟨t', fun P HP => ?_, fun P HP => ?_⟩
      · refine rh1.of (rX1_ink_69 hh _ _ _ _ _ _ _ _ _ ?_)
        refine ⟨⟨by omega, by omega⟩, fun _ => rh1.s E1 ?_, fun z => by omega⟩
        refine rh1.of (rX1_ink_82 hh _ _ _ _ _ _ _ _ _ _ ?_)
        exact ⟨⟨by omega, by omega⟩, fun z => by omega, fun _ => ⟨⟨by omega, by omega⟩, H1 P HP⟩⟩
      · refine rh1.of (rX32_ink_105 hm _ _ _ _ _ _ _ _ _ ?_)
        refine ⟨⟨by omega, by omega⟩, fun _ => rh1.s E2 ?_, fun z => by omega⟩
        refine rh1.of (rX32_ink_118 hm _ _ _ _ _ _ _ _ _ _ ?_)
        exact ⟨⟨by omega, by omega⟩, fun z => by omega, fun _ => ⟨⟨by omega, by omega⟩, H2 P HP⟩⟩
  obtain ⟨t', H1, H2⟩ := all x6.toNat x4 0 (by omega) (by omega) ⟨by omega, by omega⟩
  have fin : rh2 wh YX1_ink 3 69 [(0, 2, 0), (1, 0, x1), (2, 0, x2), (3, 0, x3), (4, 0, x4), (5, 0, x5), (6, 0, x6), (7, 0, 0), (8, 0, x4)] [] Mh wm YX32_ink 3 105 [(0, 2, 0), (1, 0, x1), (2, 0, x2), (3, 0, x3), (4, 0, x4), (5, 0, x5), (6, 0, x6), (9, 0, 0), (10, 0, x4)] [] M0 (fun r M' r2 M2' => r = r2 ∧ M' = Mh ∧ M2' = M0) := by
    obtain ⟨r, M1, e1, e2, e3⟩ := H1 (fun r M' => r = t' ∧ M' = Mh) ⟨rfl, rfl⟩
    obtain ⟨r2, M2, g1, g2, g3⟩ := H2 (fun r M' => r = t' ∧ M' = M0) ⟨rfl, rfl⟩
    exact ⟨r, M1, r2, M2, e1, g1, by rw [e2, g2], e3, g3⟩
  refine rh2.r (rX32_ink_0 hm _ _ _ _ _ _ _ ?_)
  rw [← hM0]
  refine ⟨fun _ => ⟨by omega, by omega⟩, fun _ _ => ⟨by omega, by omega⟩, fun z => absurd z c, fun _ => ?_⟩
  refine rh2.sr (vX32_ink_33 hm KM (LE0 rfl)) ?_
  rw [rh_if_t bx]
  refine rh2.r (rX32_ink_36 hm _ _ _ _ _ _ _ _ ?_)
  refine ⟨⟨by omega, by omega⟩, ⟨by omega, by omega⟩, fun _ => ⟨by omega, by omega⟩, fun _ => ⟨by omega, by omega⟩, ?_⟩
  rw [rh_if_t d']
  (intro zq hzq; replace hzq := hzq.symm; subst hzq)
  exact ⟨fun z => by omega, fun _ => fin⟩
end Ink
