/-! ===== LAYER 2: the store: row, spoil, load ===== -/
section Store
variable {wh wm : rhW}
theorem or_nn (a b : Nat) : rhI (a : Int) ||| rhI (b : Int) = rhI ((a ||| b : Nat) : Int) := by
  apply Int32.toBitVec_inj.1
  show BitVec.ofInt 32 (a : Int) ||| BitVec.ofInt 32 (b : Int) = BitVec.ofInt 32 ((a ||| b : Nat) : Int)
  rw [BitVec.ofInt_natCast, BitVec.ofInt_natCast, BitVec.ofInt_natCast]
  apply BitVec.eq_of_getLsbD_eq
  intro i hi
  simp [hi]
theorem sh8 {a : Int} (ha : 0 ≤ a ∧ a ≤ 255) : rh_shl a 8 = a * 256 := by
  have h1 : (List.range 256).all (fun v => decide (rh_shl ((v : Nat) : Int) 8 = ((v : Nat) : Int) * 256)) = true := by decide +kernel
  have h2 := of_decide_eq_true (List.all_eq_true.mp h1 a.toNat (List.mem_range.mpr (by omega)))
  rwa [show ((a.toNat : Nat) : Int) = a by omega] at h2
theorem or_sum {a b : Int} (ha : 0 ≤ a ∧ a ≤ 255) (hb : 0 ≤ b ∧ b ≤ 255) : rh_or (rh_shl a 8) b = a * 256 + b := by
  rw [sh8 ha]
  obtain ⟨m, rfl⟩ : ∃ m : Nat, a = m := ⟨a.toNat, by omega⟩
  obtain ⟨n, rfl⟩ : ∃ n : Nat, b = n := ⟨b.toNat, by omega⟩
  unfold rh_or
  rw [show (m : Int) * 256 = ((2 ^ 8 * m : Nat) : Int) by omega, or_nn, ← Nat.two_pow_add_eq_or_of_lt (by omega : n < 2 ^ 8), rh_ti ⟨by omega, by omega⟩]
  omega
theorem by_c (x : Int32) : x.toInt8.toInt32 &&& 255 = x &&& 255 := by
  apply Int32.toBitVec_inj.mp
  rw [Int32.toBitVec_and, Int32.toBitVec_and, Int8.toBitVec_toInt32, Int32.toBitVec_toInt8]
  apply BitVec.eq_of_getLsbD_eq
  intro i hi
  rw [BitVec.getLsbD_and, BitVec.getLsbD_and]
  have hm : ∀ i < 32, 8 ≤ i → (255 : Int32).toBitVec.getLsbD i = false := by decide
  rcases Nat.lt_or_ge i 8 with z | z
  · rw [BitVec.getLsbD_signExtend, BitVec.getLsbD_signExtend, if_pos z, if_pos hi]
    simp only [z, hi, decide_true, Bool.true_and]
  · rw [hm i hi z]; simp
theorem xor_d (x y z : Int32) : (x ^^^ y) &&& z = (x &&& z) ^^^ (y &&& z) := by
  apply Int32.toBitVec_inj.mp
  rw [Int32.toBitVec_and, Int32.toBitVec_xor, Int32.toBitVec_xor, Int32.toBitVec_and, Int32.toBitVec_and]
  apply BitVec.eq_of_getLsbD_eq
  intro i hi
  rw [BitVec.getLsbD_and, BitVec.getLsbD_xor, BitVec.getLsbD_xor, BitVec.getLsbD_and, BitVec.getLsbD_and]
  cases x.toBitVec.getLsbD i <;> cases y.toBitVec.getLsbD i <;> cases z.toBitVec.getLsbD i <;> rfl
theorem xor_b (b m : Int) : rh_and (rh_i2b (rh_xor b (rh_i2b m))) 255 = rh_xor (rh_and b 255) (rh_and m 255) := by
  unfold rh_and rh_i2b rh_xor
  simp only [Int32.ofInt_toInt]
  rw [show rhI 255 = 255 from rfl, by_c, xor_d, by_c]
theorem and_b (m : Int) : 0 ≤ rh_and m 255 ∧ rh_and m 255 ≤ 255 := by
  have h := rh_i2b_rg m
  have e : rh_and (rh_i2b m) 255 = rh_and m 255 := by
    unfold rh_and rh_i2b
    simp only [Int32.ofInt_toInt]
    rw [show rhI 255 = 255 from rfl, by_c]
  rw [← e, by_e h]
  split <;> omega
/-- a row's sum -/
def wsm (f : Int → Int) : Nat → Int
  | 0 => 0
  | n + 1 => wsm f n + f n * (n + 1)
theorem wsm_b {f : Int → Int} : ∀ (n : Nat), n ≤ 40000 → (∀ k : Int, 0 ≤ k → k < n → 0 ≤ f k ∧ f k ≤ 255) → 0 ≤ wsm f n ∧ wsm f n ≤ 10200000 * n
  | 0 => fun _ _ => ⟨Int.le_refl _, by show (0 : Int) ≤ 10200000 * ((0 : Nat) : Int); decide⟩
  | n + 1 => fun hn h => by
    have r := wsm_b n (by omega) (fun k k0 k1 => h k k0 (by omega))
    have hk := h n (by omega) (by omega)
    have m := mulb hk.1 hk.2 (show 0 ≤ (n : Int) + 1 by omega) (show (n : Int) + 1 ≤ 40000 by omega)
    simp only [wsm]
    omega
theorem c_sumH (hh : rh_hs wh) {A : rhM} {i p n : Int} {f : Int → Int} (hi : 0 ≤ i ∧ i < 41) (hp : A 235 i = p) (p0 : 0 ≤ p) (hn : 0 ≤ n ∧ p + n ≤ 40000) (hf : ∀ k, 0 ≤ k → k < n → rh_and (A 234 (p + k)) 255 = f k ∧ 0 ≤ f k ∧ f k ≤ 255) : eC wh YX28_sum 1 [(2, 233), (0, i), (0, n)] A (wsm f n.toNat % 65521) A := by
  refine eC.of1 (rC1.of (by decide) (LE0 rfl) ?_)
  have w : ∀ (u : Nat) (k : Nat), (k : Int) + u = n → rh1 wh YX28_sum 1 5 [(0, 2, 233), (1, 0, i), (2, 0, n), (3, 1, wsm f k), (5, 0, (k : Int))] [] A (fun r M' => r = wsm f n.toNat % 65521 ∧ M' = A) := by
    intro u
    induction u with
    | zero =>
      intro k hk
      have e : n.toNat = k := by omega
      have b := wsm_b (f := f) k (by omega) (fun j j0 j1 => (hf j j0 (by omega)).2)
      refine rh1.of (rX28_sum_5 hh _ _ _ _ _ ?_)
      refine ⟨fun z => by omega, fun _ => ⟨⟨by omega, by omega⟩, ⟨by omega, by omega⟩, by rw [e], rfl⟩⟩
    | succ u ih =>
      intro k hk
      have b := wsm_b (f := f) (k + 1) (by omega) (fun j j0 j1 => (hf j j0 (by omega)).2)
      refine rh1.of (rX28_sum_5 hh _ _ _ _ _ ?_)
      rw [hp, (hf k (by omega) (by omega)).1]
      refine ⟨fun _ => ⟨hi, ⟨by omega, by omega⟩, ⟨by omega, by omega⟩, ?_⟩, fun z => by omega⟩
      have e : wsm f k + f k * ((k : Int) + 1) = wsm f (k + 1) := rfl
      rw [e]
      (intro zq hzq; replace hzq := hzq.symm; subst hzq)
      refine ⟨⟨by omega, by omega⟩, ⟨by omega, by omega⟩, ?_⟩
      have := ih (k + 1) (by omega)
      rwa [show ((k + 1 : Nat) : Int) = (k : Int) + 1 by omega] at this
  refine rh1.of (rX28_sum_0 hh _ _ _ ?_)
  exact w n.toNat 0 (by omega)
theorem c_sumM (hm : rh_ms wm) {B : rhM} {p n : Int} {f : Int → Int} (p0 : 0 ≤ p) (hn : 0 ≤ n ∧ p + n ≤ 40000) (hf : ∀ k, 0 ≤ k → k < n → B 196 (p + k) = f k ∧ 0 ≤ f k ∧ f k ≤ 255) : eC wm YX32_rowSum 0 [(2, 0), (0, p), (0, n)] B (wsm f n.toNat % 65521) B := by
  refine eC.of1 (rC1.of (by decide) (LE0 rfl) ?_)
  have w : ∀ (u : Nat) (k : Nat), (k : Int) + u = n → rh1 wm YX32_rowSum 0 5 [(0, 2, 0), (1, 0, p), (2, 0, n), (3, 1, wsm f k % 65521), (5, 0, (k : Int))] [] B (fun r M' => r = wsm f n.toNat % 65521 ∧ M' = B) := by
    intro u
    induction u with
    | zero =>
      intro k hk
      have e : n.toNat = k := by omega
      refine rh1.of (rX32_rowSum_5 hm _ _ _ _ _ ?_)
      refine ⟨fun z => by omega, fun _ => ⟨⟨by omega, by omega⟩, by rw [e], rfl⟩⟩
    | succ u ih =>
      intro k hk
      have hk2 := hf k (by omega) (by omega)
      have m := mulb hk2.2.1 hk2.2.2 (show 0 ≤ (k : Int) + 1 by omega) (show (k : Int) + 1 ≤ 40000 by omega)
      refine rh1.of (rX32_rowSum_5 hm _ _ _ _ _ ?_)
      rw [hk2.1]
      refine ⟨fun _ => ⟨⟨by omega, by omega⟩, ⟨by omega, by omega⟩, ⟨by omega, by omega⟩, ⟨by omega, by omega⟩, ?_⟩, fun z => by omega⟩
      have e : (wsm f k % 65521 + f k * ((k : Int) + 1)) % 65521 = wsm f (k + 1) % 65521 := by
        show _ = (wsm f k + f k * ((k : Int) + 1)) % 65521
        omega
      rw [e]
      (intro zq hzq; replace hzq := hzq.symm; subst hzq)
      refine ⟨⟨by omega, by omega⟩, ?_⟩
      have := ih (k + 1) (by omega)
      rwa [show ((k + 1 : Nat) : Int) = (k : Int) + 1 by omega] at this
  refine rh1.of (rX32_rowSum_0 hm _ _ _ ?_)
  exact w n.toNat 0 (by omega)
/-- whether a row's sum is right, on both sides -/
theorem c_right (hh : rh_hs wh) (hm : rh_ms wm) {A B : rhM} (R : Rst A B) {i : Int} (h : 0 ≤ i ∧ i ≤ B 0 252 - 1) : ∃ v, (v = 0 ∨ v = 1) ∧ eC wh YX28_isRight 2 [(2, 233), (0, i)] A v A ∧ eC wm YX32_isRowRight 1 [(2, 0), (0, i)] B v B := by
  obtain ⟨⟨a1, a2⟩, a3, a4⟩ := R.at h
  have r1 := R.1
  obtain ⟨p, hp⟩ : ∃ p, B 197 i = p := ⟨_, rfl⟩
  obtain ⟨e, he⟩ : ∃ e, B 197 (i + 1) = e := ⟨_, rfl⟩
  rw [hp] at a1 a3 a4
  rw [he] at a2 a3 a4
  have K1 := c_sumH hh (A := A) (i := i) (p := p) (n := e - p - 2) (f := fun k => B 196 (p + k)) ⟨by omega, by omega⟩ a1 (by omega) ⟨by omega, by omega⟩ (fun k k0 k1 => ⟨(a4 k k0 (by omega)).1, (a4 k k0 (by omega)).2.1⟩)
  have K2 := c_sumM hm (B := B) (p := p) (n := e - p - 2) (f := fun k => B 196 (p + k)) (by omega) ⟨by omega, by omega⟩ (fun k k0 k1 => ⟨rfl, (a4 k k0 (by omega)).2.1⟩)
  obtain ⟨s, hs⟩ : ∃ s, s = wsm (fun k => B 196 (p + k)) (e - p - 2).toNat % 65521 := ⟨_, rfl⟩
  rw [← hs] at K1 K2
  obtain ⟨u1, u2, -⟩ := a4 (e - p - 2) (by omega) (by omega)
  obtain ⟨w1, w2, -⟩ := a4 (e - p - 1) (by omega) (by omega)
  have os := or_sum u2 w2
  refine ⟨rh_if (s = B 196 (p + (e - p - 2)) * 256 + B 196 (p + (e - p - 1))) 1 0, ?_, eC.of1 (rC1.of (by decide) (LE0 rfl) ?_), eC.of1 (rC1.of (by decide) (LE0 rfl) ?_)⟩
  · by_cases q : s = B 196 (p + (e - p - 2)) * 256 + B 196 (p + (e - p - 1))
    · rw [rh_if_t q]; exact .inr rfl
    · rw [rh_if_f q]; exact .inl rfl
  · refine rh1.of (rX28_isRight_0 hh _ _ ?_)
    rw [a1, a2]
    refine ⟨⟨by omega, by omega⟩, ⟨by omega, by omega⟩, ⟨by omega, by omega⟩, ?_⟩
    (intro zq hzq; replace hzq := hzq.symm; subst hzq)
    refine ⟨⟨by omega, by omega⟩, ?_⟩
    refine rh1.s (vX28_isRight_11 hh K1 (LE0 rfl)) ?_
    refine rh1.of (rX28_isRight_14 hh _ _ _ _ ?_)
    rw [a1, u1, show p + (e - p - 2 + 1) = p + (e - p - 1) by omega, w1, os]
    exact ⟨⟨by omega, by omega⟩, ⟨by omega, by omega⟩, ⟨by omega, by omega⟩, ⟨by omega, by omega⟩, ⟨by omega, by omega⟩, rfl, rfl⟩
  · refine rh1.of (rX32_isRowRight_0 hm _ _ ?_)
    rw [hp, he]
    refine ⟨⟨by omega, by omega⟩, ⟨by omega, by omega⟩, ⟨by omega, by omega⟩, ?_⟩
    (intro zq hzq; replace hzq := hzq.symm; subst hzq)
    refine ⟨⟨by omega, by omega⟩, ⟨by omega, by omega⟩, ?_⟩
    refine rh1.s (vX32_isRowRight_18 hm K2 (LE0 rfl)) ?_
    refine rh1.of (rX32_isRowRight_21 hm _ _ _ _ ?_)
    rw [show p + (e - p - 2) + 1 = p + (e - p - 1) by omega]
    exact ⟨⟨by omega, by omega⟩, ⟨by omega, by omega⟩, ⟨by omega, by omega⟩, rfl, rfl⟩
theorem Rst.n0 {Mh Mm : rhM} (R : Rst Mh Mm) : Rst Mh (rh_set Mm 0 0 0) := by
  obtain ⟨r1, r2, r3, r4, r5, r6, r7⟩ := R
  have en : ∀ c k, 0 < c → rh_set Mm 0 0 0 c k = Mm c k := fun c k h => rh_set_a (by omega)
  unfold Rst
  rw [rh_set_j (j := 252) (by decide), rh_set_j (j := 256) (by decide), rh_set_j (j := 253) (by decide), en 197 0 (by decide), en 197 _ (by decide)]
  refine ⟨r1, r2, fun i i0 i1 => ?_, r4, fun i i0 i1 => ?_, r6, fun j j0 j1 => ?_⟩
  · rw [en 197 i (by decide)]; exact r3 i i0 i1
  · rw [en 197 i (by decide), en 197 (i + 1) (by decide)]; exact r5 i i0 i1
  · rw [en 196 j (by decide)]; exact r7 j j0 j1
theorem op_row (hh : rh_hs wh) (hm : rh_ms wm) {Mh Mm : rhM} (R : Rst Mh Mm) (x1 x2 : Int) : rC2 wh YX1_row 3 [(2, 0), (0, x1), (0, x2)] Mh wm YX32_row 2 [(2, 0), (0, x1), (0, x2)] Mm (fun r M' r2 M2' => r = r2 ∧ M' = Mh ∧ M2' = rh_set Mm 0 0 0) := by
  refine rC2.of (by decide) (LE0 rfl) (by decide) (LE0 rfl) ?_
  have R0 := R.n0
  obtain ⟨M0, hM0⟩ : ∃ M0, M0 = rh_set Mm 0 0 0 := ⟨_, rfl⟩
  rw [← hM0] at R0 ⊢
  have r1 := R0.1
  refine rh2.l (rX1_row_0 hh _ _ _ ?_)
  rw [r1.1]
  refine ⟨⟨by omega, by omega⟩, fun c => ?_, fun c => ?_⟩
  · refine rh1.of (rX32_row_0 hm _ _ _ ?_)
    rw [← hM0]
    exact ⟨⟨by omega, by omega⟩, fun _ => ⟨rfl, rfl, rfl⟩, fun z => absurd c z⟩
  have c' : 0 ≤ x1 ∧ x1 ≤ M0 0 252 - 1 := Classical.byContradiction c
  obtain ⟨⟨a1, a2⟩, a3, a4⟩ := R0.at c'
  obtain ⟨v, hv, K1, K2⟩ := c_right hh hm R0 c'
  rw [a1, a2]
  refine ⟨fun q0 => ⟨⟨by omega, by omega⟩, ⟨by omega, by omega⟩, ?_⟩, fun q0 => ⟨fun q1 => ⟨⟨by omega, by omega⟩, ⟨by omega, by omega⟩, ⟨by omega, by omega⟩, ⟨by omega, by omega⟩, ?_⟩, fun q1 => ⟨fun q2 => ?_, fun q2 => ?_⟩⟩⟩
  · refine rh1.of (rX32_row_0 hm _ _ _ ?_)
    rw [← hM0]
    refine ⟨⟨by omega, by omega⟩, fun z => absurd z c, fun _ => ⟨fun _ => ⟨⟨by omega, by omega⟩, ⟨by omega, by omega⟩, ?_, rfl, rfl⟩, fun z => absurd q0 z⟩⟩
    have := (a4 0 (by decide) (by omega)).1
    rw [show M0 197 x1 + 0 = M0 197 x1 by omega] at this ⊢
    exact this
  · refine rh1.of (rX32_row_0 hm _ _ _ ?_)
    rw [← hM0]
    exact ⟨⟨by omega, by omega⟩, fun z => absurd z c, fun _ => ⟨fun z => absurd z q0, fun _ => ⟨fun _ => ⟨⟨by omega, by omega⟩, ⟨by omega, by omega⟩, ⟨by omega, by omega⟩, ⟨by omega, by omega⟩, by omega, rfl, rfl⟩, fun z => absurd q1 z⟩⟩⟩
  · refine rh2.sl (vX1_row_64 hh K1 (LE0 rfl)) ?_
    refine rh2.l (rX1_row_67 hh _ _ ?_)
    refine rh1.of (rX32_row_0 hm _ _ _ ?_)
    rw [← hM0]
    refine ⟨⟨by omega, by omega⟩, fun z => absurd z c, fun _ => ⟨fun z => absurd z q0, fun _ => ⟨fun z => absurd z q1, fun _ => ⟨fun _ => ?_, fun z => absurd q2 z⟩⟩⟩⟩
    refine rh1.s (vX32_row_62 hm K2 (LE0 rfl)) ?_
    refine rh1.of (rX32_row_65 hm _ _ ?_)
    exact ⟨rfl, rfl, rfl⟩
  · refine rh1.of (rX32_row_0 hm _ _ _ ?_)
    rw [← hM0]
    exact ⟨⟨by omega, by omega⟩, fun z => absurd z c, fun _ => ⟨fun z => absurd z q0, fun _ => ⟨fun z => absurd z q1, fun _ => ⟨fun z => absurd z q2, fun _ => ⟨rfl, rfl, rfl⟩⟩⟩⟩⟩
theorem op_spoil (hh : rh_hs wh) (hm : rh_ms wm) {Mh Mm : rhM} (R : Rst Mh Mm) (x1 x2 x3 : Int) : rC2 wh YX1_spoil 2 [(2, 0), (0, x1), (0, x2), (0, x3)] Mh wm YX32_spoil 2 [(2, 0), (0, x1), (0, x2), (0, x3)] Mm (fun r M' r2 M2' => r = r2 ∧ Rst M' M2' ∧ frx (fun c j => c = 234) Mh M' ∧ frx (fun c j => (c = 0 ∧ j = 0) ∨ c = 196) Mm M2') := by
  refine rC2.of (by decide) (LE0 rfl) (by decide) (LE0 rfl) ?_
  have R0 := R.n0
  obtain ⟨M0, hM0⟩ : ∃ M0, M0 = rh_set Mm 0 0 0 := ⟨_, rfl⟩
  rw [← hM0] at R0
  have g0 : frx (fun c j => (c = 0 ∧ j = 0) ∨ c = 196) Mm M0 := by rw [hM0]; exact frx.rf.st (by omega)
  have r1 := R0.1
  refine rh2.l (rX1_spoil_0 hh _ _ _ _ ?_)
  rw [r1.1]
  refine ⟨⟨by omega, by omega⟩, fun c => ?_, fun c => ?_⟩
  · refine rh1.of (rX32_spoil_0 hm _ _ _ _ ?_)
    rw [← hM0]
    exact ⟨⟨by omega, by omega⟩, fun _ => ⟨rfl, R0, frx.rf, g0⟩, fun z => absurd c z⟩
  have c' : 0 ≤ x1 ∧ x1 ≤ M0 0 252 - 1 := Classical.byContradiction c
  obtain ⟨⟨a1, a2⟩, a3, a4⟩ := R0.at c'
  rw [a1, a2]
  refine ⟨⟨by omega, by omega⟩, ⟨by omega, by omega⟩, ⟨by omega, by omega⟩, ⟨by omega, by omega⟩, fun d => ?_, fun d => ?_⟩
  · obtain ⟨u1, u2, u3⟩ := a4 x2 (by omega) (by omega)
    obtain ⟨b, hb⟩ : ∃ b, b = rh_i2b (rh_xor (Mh 234 (M0 197 x1 + x2)) (rh_i2b x3)) := ⟨_, rfl⟩
    have bb : -128 ≤ b ∧ b ≤ 127 := by rw [hb]; exact rh_i2b_rg _
    have be : rh_and b 255 = rh_xor (M0 196 (M0 197 x1 + x2)) (rh_and x3 255) := by rw [hb, xor_b, u1]
    have b2 := and_b b
    obtain ⟨A1, hA1⟩ : ∃ A1, A1 = rh_set Mh 234 (M0 197 x1 + x2) b := ⟨_, rfl⟩
    have K : eC wh YX28_spoil 1 [(2, 233), (0, x1), (0, x2), (0, x3)] Mh (rh_and b 255) A1 := eC.of1 (rC1.of (by decide) (LE0 rfl) (by
      refine rh1.of (rX28_spoil_0 hh _ _ _ _ ?_)
      rw [a1, ← hb]
      refine ⟨⟨by omega, by omega⟩, ⟨by omega, by omega⟩, ?_⟩
      (intro zq hzq; replace hzq := hzq.symm; subst hzq)
      refine ⟨⟨by omega, by omega⟩, bb, ?_⟩
      (intro zq hzq; replace hzq := hzq.symm; subst hzq)
      rw [rh_set_a (by decide), a1, rh_set_s]
      exact ⟨⟨by omega, by omega⟩, ⟨by omega, by omega⟩, rfl, hA1.symm⟩))
    refine rh2.sl (vX1_spoil_42 hh K (LE0 rfl)) ?_
    refine rh2.l (rX1_spoil_45 hh _ _ ?_)
    refine rh1.of (rX32_spoil_0 hm _ _ _ _ ?_)
    rw [← hM0, ← be]
    refine ⟨⟨by omega, by omega⟩, fun z => absurd z c, fun _ => ⟨⟨by omega, by omega⟩, ⟨by omega, by omega⟩, ⟨by omega, by omega⟩, ⟨by omega, by omega⟩, fun z => absurd d z, fun _ => ⟨⟨by omega, by omega⟩, ⟨by omega, by omega⟩, ?_⟩⟩⟩
    (intro zq hzq; replace hzq := hzq.symm; subst hzq)
    refine ⟨⟨by omega, by omega⟩, ?_⟩
    (intro zq hzq; replace hzq := hzq.symm; subst hzq)
    rw [rh_set_a (by decide), rh_set_s]
    obtain ⟨q1, q2, q3, q4, q5, q6, q7⟩ := R0
    refine ⟨⟨by omega, by omega⟩, ⟨by omega, by omega⟩, rfl, ⟨?_, ?_, fun i i0 i1 => ?_, ?_, fun i i0 i1 => ?_, ?_, fun k k0 k1 => ?_⟩, by rw [hA1]; exact frx.rf.st rfl, g0.st (.inr rfl)⟩
    · rw [hA1, rh_set_a (by decide), rh_set_a (by decide)]; exact q1
    · rw [hA1, rh_set_a (by decide), rh_set_a (by decide), rh_set_a (by decide)]; exact q2
    · rw [rh_set_a (by decide)] at i1
      rw [hA1, rh_set_a (by decide), rh_set_a (by decide)]
      exact q3 i i0 i1
    · rw [rh_set_a (by decide)]; exact q4
    · rw [rh_set_a (by decide)] at i1
      rw [rh_set_a (by decide), rh_set_a (by decide)]
      exact q5 i i0 i1
    · rw [rh_set_a (by decide), rh_set_a (by decide), rh_set_a (by decide)]; exact q6
    · rw [rh_set_a (by decide), rh_set_a (by decide)] at k1
      by_cases e : k = M0 197 x1 + x2
      · rw [e, hA1, rh_set_s, rh_set_s]
        exact ⟨rfl, b2, bb⟩
      · rw [hA1, rh_set_j e, rh_set_j e]
        exact q7 k k0 k1
  · refine rh1.of (rX32_spoil_0 hm _ _ _ _ ?_)
    rw [← hM0]
    exact ⟨⟨by omega, by omega⟩, fun z => absurd z c, fun _ => ⟨⟨by omega, by omega⟩, ⟨by omega, by omega⟩, ⟨by omega, by omega⟩, ⟨by omega, by omega⟩, fun _ => ⟨rfl, R0, frx.rf, g0⟩, fun z => absurd d z⟩⟩
end Store
