/-! ===== LAYER 2: black, its loops ===== -/
section BlackL
variable {wh wm : rhW}
/-- how many are black -/
noncomputable def bcn (f : Int → Int) : Nat → Int
  | 0 => 0
  | k + 1 => bcn f k + rh_if (f k ≠ 0) (1 : Int) 0
theorem bcn_b {f : Int → Int} : ∀ k : Nat, 0 ≤ bcn f k ∧ bcn f k ≤ k
  | 0 => ⟨show (0 : Int) ≤ 0 by decide, show (0 : Int) ≤ ((0 : Nat) : Int) by decide⟩
  | k + 1 => by
    have q := bcn_b (f := f) k
    have i := (if10 (P := f k ≠ 0)).2.2
    show 0 ≤ bcn f k + rh_if (f k ≠ 0) (1 : Int) 0 ∧ bcn f k + rh_if (f k ≠ 0) (1 : Int) 0 ≤ ((k + 1 : Nat) : Int)
    omega
theorem bcn_s {f : Int → Int} {k : Int} (h : 0 ≤ k) : bcn f (k + 1).toNat = bcn f k.toNat + rh_if (f k ≠ 0) (1 : Int) 0 := by
  rw [show (k + 1).toNat = k.toNat + 1 by omega]
  show bcn f k.toNat + rh_if (f (k.toNat : Int) ≠ 0) (1 : Int) 0 = _
  rw [show ((k.toNat : Nat) : Int) = k by omega]
def Spi (f : Int → Int) (M : rhM) (k : Int) : Prop := ∀ i, 0 ≤ i → i < k → M 9 i = rh_i2b (rh_if (f i ≠ 0) (0 : Int) 255)
def Spm (f : Int → Int) (M : rhM) (k : Int) : Prop := ∀ i, 0 ≤ i → i < k → M 6 i = rh_if (f i ≠ 0) (0 : Int) 255
theorem m_blkL {B0 : rhM} {p q rl a b lv W H : Int} {f : Int → Int} (hm : rh_ms wm)
    (S : ∀ (M : rhM), frx (fun c _ => c = 6) B0 M → ∀ k n : Int, 0 ≤ k → k < W * H → 0 ≤ n → n ≤ k → ∀ P : Int → rhM → Prop, rh1 wm YX32_black 3 143 [(0, 2, 0), (1, 0, p), (2, 0, q), (3, 0, rl), (4, 0, a), (5, 0, b), (7, 0, lv), (8, 0, W), (9, 0, H), (10, 0, n + rh_if (f k ≠ 0) (1 : Int) 0), (11, 0, k + 1)] [] (rh_set M 6 k (rh_if (f k ≠ 0) (0 : Int) 255)) P → rh1 wm YX32_black 3 143 [(0, 2, 0), (1, 0, p), (2, 0, q), (3, 0, rl), (4, 0, a), (5, 0, b), (7, 0, lv), (8, 0, W), (9, 0, H), (10, 0, n), (11, 0, k)] [] M P) :
    ∀ (u : Nat) (k : Int) (M : rhM), k + u = W * H → 0 ≤ k → frx (fun c _ => c = 6) B0 M → Spm f M k → ∃ M', eS wm YX32_black 3 143 [(0, 2, 0), (1, 0, p), (2, 0, q), (3, 0, rl), (4, 0, a), (5, 0, b), (7, 0, lv), (8, 0, W), (9, 0, H), (10, 0, bcn f k.toNat), (11, 0, k)] [] M 143 [(0, 2, 0), (1, 0, p), (2, 0, q), (3, 0, rl), (4, 0, a), (5, 0, b), (7, 0, lv), (8, 0, W), (9, 0, H), (10, 0, bcn f (W * H).toNat), (11, 0, W * H)] [] M' ∧ frx (fun c _ => c = 6) B0 M' ∧ Spm f M' (W * H) := by
  intro u
  induction u with
  | zero =>
    intro k M hk k0 g s
    have ek : k = W * H := by omega
    rw [← ek]
    exact ⟨M, eS.rf, g, s⟩
  | succ u ih =>
    intro k M hk k0 g s
    have bb := bcn_b (f := f) k.toNat
    obtain ⟨M', L, r⟩ := ih (k + 1) (rh_set M 6 k (rh_if (f k ≠ 0) (0 : Int) 255)) (by omega) (by omega) (g.st rfl) (fun i i0 i1 => by
      by_cases y : i = k
      · rw [y, rh_set_s]
      · rw [rh_set_j y]; exact s i i0 (by omega))
    refine ⟨M', eS.tr (eS.of (fun Q HQ => ?_)) L, r⟩
    rw [bcn_s k0] at HQ
    exact S M g k _ k0 (by omega) bb.1 (by omega) Q HQ
theorem h_rowa (hh : rh_hs wh) {A0 : rhM} {x2 x7 W H y : Int} {f : Int → Int} (hx : rh_bl wh 0 x7 0) (hx9 : x7 ≠ 9) (e1 : A0 x7 1 = W) (s1 : A0 8 1 = W) (hW : 0 ≤ W ∧ W ≤ 128) (hy : 0 ≤ y ∧ y < H) (hN : W * H ≤ 6144) (E : ∀ M, frx (fun c _ => c = 9) A0 M → ∀ x, 0 ≤ x → x < W → eC wh YX9_isBlack 3 [(2, 16), (2, x7), (0, x), (0, y)] M (f (W * y + x)) M) :
    ∀ (u : Nat) (x : Int) (M : rhM), x + u = W → 0 ≤ x → frx (fun c _ => c = 9) A0 M → Spi f M (W * y + x) → ∃ M', eS wh YX1_black (3 + 1) 127 [(0, 2, 0), (2, 0, x2), (6, 2, 16), (7, 2, x7), (8, 0, bcn f (W * y + x).toNat), (9, 0, y), (10, 0, x)] [] M 127 [(0, 2, 0), (2, 0, x2), (6, 2, 16), (7, 2, x7), (8, 0, bcn f (W * y + W).toNat), (9, 0, y), (10, 0, W)] [] M' ∧ frx (fun c _ => c = 9) A0 M' ∧ Spi f M' (W * y + W) := by
  intro u
  induction u with
  | zero =>
    intro x M hk x0 g s
    have ek : x = W := by omega
    rw [ek] at s ⊢
    exact ⟨M, eS.rf, g, s⟩
  | succ u ih =>
    intro x M hk x0 g s
    have ix := ixW (u := x) (v := y) ⟨x0, by omega⟩ hy hN
    have bb := bcn_b (f := f) (W * y + x).toNat
    have ib := (if10 (P := f (W * y + x) ≠ 0)).2.2
    have m1 : M x7 1 = W := by rw [g x7 1 hx9]; exact e1
    have m2 : M 8 1 = W := by rw [g 8 1 (by decide)]; exact s1
    obtain ⟨M', L, r⟩ := ih (x + 1) (rh_set M 9 (W * y + x) (rh_i2b (rh_if (f (W * y + x) ≠ 0) (0 : Int) 255))) (by omega) (by omega) (g.st rfl) (fun i i0 i1 => by
      by_cases z : i = W * y + x
      · rw [z, rh_set_s]
      · rw [rh_set_j z]; exact s i i0 (by omega))
    refine ⟨M', eS.tr (eS.of (fun Q HQ => ?_)) L, r⟩
    rw [show W * y + (x + 1) = W * y + x + 1 by omega, bcn_s ix.1] at HQ
    refine rh1.up (rX1_blacka_127 hh _ _ _ _ _ _ hx ?_)
    rw [m1]
    refine ⟨fun _ => rh1.s (vX1_blacka_145 hh (E M g x x0 (by omega)) (LE0 rfl)) ?_, fun z => by omega⟩
    refine rh1.up (rX1_blacka_148 hh _ _ _ _ _ _ _ hx ?_)
    rw [m2]
    refine ⟨⟨ix.1, ix.2.2⟩, fun t ht => ?_⟩
    rw [ht]
    exact ⟨⟨by omega, by omega⟩, ⟨by omega, by omega⟩, HQ⟩
theorem h_rowsa (hh : rh_hs wh) {A0 : rhM} {x2 x7 W H : Int} {f : Int → Int} (hx : rh_bl wh 0 x7 0) (hx9 : x7 ≠ 9) (e1 : A0 x7 1 = W) (e2 : A0 x7 2 = H) (s1 : A0 8 1 = W) (hW : 0 ≤ W ∧ W ≤ 128) (hH : 0 ≤ H ∧ H ≤ 96) (hN : W * H ≤ 6144) (E : ∀ M, frx (fun c _ => c = 9) A0 M → ∀ x y, 0 ≤ x → x < W → 0 ≤ y → y < H → eC wh YX9_isBlack 3 [(2, 16), (2, x7), (0, x), (0, y)] M (f (W * y + x)) M) :
    ∀ (u : Nat) (y : Int) (M : rhM), y + u = H → 0 ≤ y → frx (fun c _ => c = 9) A0 M → Spi f M (W * y) → ∃ M', eS wh YX1_black (3 + 1) 114 [(0, 2, 0), (2, 0, x2), (6, 2, 16), (7, 2, x7), (8, 0, bcn f (W * y).toNat), (9, 0, y)] [] M 114 [(0, 2, 0), (2, 0, x2), (6, 2, 16), (7, 2, x7), (8, 0, bcn f (W * H).toNat), (9, 0, H)] [] M' ∧ frx (fun c _ => c = 9) A0 M' ∧ Spi f M' (W * H) := by
  intro u
  induction u with
  | zero =>
    intro y M hk y0 g s
    have ek : y = H := by omega
    rw [ek] at s ⊢
    exact ⟨M, eS.rf, g, s⟩
  | succ u ih =>
    intro y M hk y0 g s
    have e0 : W * y + 0 = W * y := Int.add_zero _
    obtain ⟨M1, L1, g1, s1'⟩ := h_rowa hh (x2 := x2) (y := y) hx hx9 e1 s1 hW ⟨y0, by omega⟩ hN (fun M g x x0 x1 => E M g x y x0 x1 y0 (by omega)) W.toNat 0 M (by omega) (by decide) g (by rw [e0]; exact s)
    rw [e0] at L1
    have e3 : W * y + W = W * (y + 1) := by rw [Int.mul_add, Int.mul_one]
    rw [e3] at L1 s1'
    have m2 : M x7 2 = H := by rw [g x7 2 hx9]; exact e2
    have m1 : M1 x7 1 = W := by rw [g1 x7 1 hx9]; exact e1
    obtain ⟨M', L, r⟩ := ih (y + 1) M1 (by omega) (by omega) g1 s1'
    refine ⟨M', eS.tr (eS.of (fun Q HQ => ?_)) L, r⟩
    refine rh1.up (rX1_blacka_114 hh _ _ _ _ _ hx ?_)
    rw [m2]
    refine ⟨fun _ => rh1.s L1 ?_, fun z => by omega⟩
    refine rh1.up (rX1_blacka_127 hh _ _ _ _ _ _ hx ?_)
    rw [m1]
    exact ⟨fun z => by omega, fun _ => ⟨⟨by omega, by omega⟩, HQ⟩⟩
theorem h_rowb (hh : rh_hs wh) {A0 : rhM} {x2 x7 W H y : Int} {f : Int → Int} (hx : rh_bl wh 0 x7 0) (hx9 : x7 ≠ 9) (e1 : A0 x7 1 = W) (s1 : A0 8 1 = W) (hW : 0 ≤ W ∧ W ≤ 128) (hy : 0 ≤ y ∧ y < H) (hN : W * H ≤ 6144) (E : ∀ M, frx (fun c _ => c = 9) A0 M → ∀ x, 0 ≤ x → x < W → eC wh YX10_isBlack 3 [(2, 19), (2, x7), (0, x), (0, y)] M (f (W * y + x)) M) :
    ∀ (u : Nat) (x : Int) (M : rhM), x + u = W → 0 ≤ x → frx (fun c _ => c = 9) A0 M → Spi f M (W * y + x) → ∃ M', eS wh YX1_black (3 + 1) 127 [(0, 2, 0), (2, 0, x2), (6, 2, 19), (7, 2, x7), (8, 0, bcn f (W * y + x).toNat), (9, 0, y), (10, 0, x)] [] M 127 [(0, 2, 0), (2, 0, x2), (6, 2, 19), (7, 2, x7), (8, 0, bcn f (W * y + W).toNat), (9, 0, y), (10, 0, W)] [] M' ∧ frx (fun c _ => c = 9) A0 M' ∧ Spi f M' (W * y + W) := by
  intro u
  induction u with
  | zero =>
    intro x M hk x0 g s
    have ek : x = W := by omega
    rw [ek] at s ⊢
    exact ⟨M, eS.rf, g, s⟩
  | succ u ih =>
    intro x M hk x0 g s
    have ix := ixW (u := x) (v := y) ⟨x0, by omega⟩ hy hN
    have bb := bcn_b (f := f) (W * y + x).toNat
    have ib := (if10 (P := f (W * y + x) ≠ 0)).2.2
    have m1 : M x7 1 = W := by rw [g x7 1 hx9]; exact e1
    have m2 : M 8 1 = W := by rw [g 8 1 (by decide)]; exact s1
    obtain ⟨M', L, r⟩ := ih (x + 1) (rh_set M 9 (W * y + x) (rh_i2b (rh_if (f (W * y + x) ≠ 0) (0 : Int) 255))) (by omega) (by omega) (g.st rfl) (fun i i0 i1 => by
      by_cases z : i = W * y + x
      · rw [z, rh_set_s]
      · rw [rh_set_j z]; exact s i i0 (by omega))
    refine ⟨M', eS.tr (eS.of (fun Q HQ => ?_)) L, r⟩
    rw [show W * y + (x + 1) = W * y + x + 1 by omega, bcn_s ix.1] at HQ
    refine rh1.up (rX1_blackb_127 hh _ _ _ _ _ _ hx ?_)
    rw [m1]
    refine ⟨fun _ => rh1.s (vX1_blackb_145 hh (E M g x x0 (by omega)) (LE0 rfl)) ?_, fun z => by omega⟩
    refine rh1.up (rX1_blackb_148 hh _ _ _ _ _ _ _ hx ?_)
    rw [m2]
    refine ⟨⟨ix.1, ix.2.2⟩, fun t ht => ?_⟩
    rw [ht]
    exact ⟨⟨by omega, by omega⟩, ⟨by omega, by omega⟩, HQ⟩
theorem h_rowsb (hh : rh_hs wh) {A0 : rhM} {x2 x7 W H : Int} {f : Int → Int} (hx : rh_bl wh 0 x7 0) (hx9 : x7 ≠ 9) (e1 : A0 x7 1 = W) (e2 : A0 x7 2 = H) (s1 : A0 8 1 = W) (hW : 0 ≤ W ∧ W ≤ 128) (hH : 0 ≤ H ∧ H ≤ 96) (hN : W * H ≤ 6144) (E : ∀ M, frx (fun c _ => c = 9) A0 M → ∀ x y, 0 ≤ x → x < W → 0 ≤ y → y < H → eC wh YX10_isBlack 3 [(2, 19), (2, x7), (0, x), (0, y)] M (f (W * y + x)) M) :
    ∀ (u : Nat) (y : Int) (M : rhM), y + u = H → 0 ≤ y → frx (fun c _ => c = 9) A0 M → Spi f M (W * y) → ∃ M', eS wh YX1_black (3 + 1) 114 [(0, 2, 0), (2, 0, x2), (6, 2, 19), (7, 2, x7), (8, 0, bcn f (W * y).toNat), (9, 0, y)] [] M 114 [(0, 2, 0), (2, 0, x2), (6, 2, 19), (7, 2, x7), (8, 0, bcn f (W * H).toNat), (9, 0, H)] [] M' ∧ frx (fun c _ => c = 9) A0 M' ∧ Spi f M' (W * H) := by
  intro u
  induction u with
  | zero =>
    intro y M hk y0 g s
    have ek : y = H := by omega
    rw [ek] at s ⊢
    exact ⟨M, eS.rf, g, s⟩
  | succ u ih =>
    intro y M hk y0 g s
    have e0 : W * y + 0 = W * y := Int.add_zero _
    obtain ⟨M1, L1, g1, s1'⟩ := h_rowb hh (x2 := x2) (y := y) hx hx9 e1 s1 hW ⟨y0, by omega⟩ hN (fun M g x x0 x1 => E M g x y x0 x1 y0 (by omega)) W.toNat 0 M (by omega) (by decide) g (by rw [e0]; exact s)
    rw [e0] at L1
    have e3 : W * y + W = W * (y + 1) := by rw [Int.mul_add, Int.mul_one]
    rw [e3] at L1 s1'
    have m2 : M x7 2 = H := by rw [g x7 2 hx9]; exact e2
    have m1 : M1 x7 1 = W := by rw [g1 x7 1 hx9]; exact e1
    obtain ⟨M', L, r⟩ := ih (y + 1) M1 (by omega) (by omega) g1 s1'
    refine ⟨M', eS.tr (eS.of (fun Q HQ => ?_)) L, r⟩
    refine rh1.up (rX1_blackb_114 hh _ _ _ _ _ hx ?_)
    rw [m2]
    refine ⟨fun _ => rh1.s L1 ?_, fun z => by omega⟩
    refine rh1.up (rX1_blackb_127 hh _ _ _ _ _ _ hx ?_)
    rw [m1]
    exact ⟨fun z => by omega, fun _ => ⟨⟨by omega, by omega⟩, HQ⟩⟩
theorem h_rowc (hh : rh_hs wh) {A0 : rhM} {x2 x7 W H y : Int} {f : Int → Int} (hx : rh_bl wh 0 x7 0) (hx9 : x7 ≠ 9) (e1 : A0 x7 1 = W) (s1 : A0 8 1 = W) (hW : 0 ≤ W ∧ W ≤ 128) (hy : 0 ≤ y ∧ y < H) (hN : W * H ≤ 6144) (E : ∀ M, frx (fun c _ => c = 9) A0 M → ∀ x, 0 ≤ x → x < W → eC wh YX11_isBlack 3 [(2, 20), (2, x7), (0, x), (0, y)] M (f (W * y + x)) M) :
    ∀ (u : Nat) (x : Int) (M : rhM), x + u = W → 0 ≤ x → frx (fun c _ => c = 9) A0 M → Spi f M (W * y + x) → ∃ M', eS wh YX1_black (3 + 1) 127 [(0, 2, 0), (2, 0, x2), (6, 2, 20), (7, 2, x7), (8, 0, bcn f (W * y + x).toNat), (9, 0, y), (10, 0, x)] [] M 127 [(0, 2, 0), (2, 0, x2), (6, 2, 20), (7, 2, x7), (8, 0, bcn f (W * y + W).toNat), (9, 0, y), (10, 0, W)] [] M' ∧ frx (fun c _ => c = 9) A0 M' ∧ Spi f M' (W * y + W) := by
  intro u
  induction u with
  | zero =>
    intro x M hk x0 g s
    have ek : x = W := by omega
    rw [ek] at s ⊢
    exact ⟨M, eS.rf, g, s⟩
  | succ u ih =>
    intro x M hk x0 g s
    have ix := ixW (u := x) (v := y) ⟨x0, by omega⟩ hy hN
    have bb := bcn_b (f := f) (W * y + x).toNat
    have ib := (if10 (P := f (W * y + x) ≠ 0)).2.2
    have m1 : M x7 1 = W := by rw [g x7 1 hx9]; exact e1
    have m2 : M 8 1 = W := by rw [g 8 1 (by decide)]; exact s1
    obtain ⟨M', L, r⟩ := ih (x + 1) (rh_set M 9 (W * y + x) (rh_i2b (rh_if (f (W * y + x) ≠ 0) (0 : Int) 255))) (by omega) (by omega) (g.st rfl) (fun i i0 i1 => by
      by_cases z : i = W * y + x
      · rw [z, rh_set_s]
      · rw [rh_set_j z]; exact s i i0 (by omega))
    refine ⟨M', eS.tr (eS.of (fun Q HQ => ?_)) L, r⟩
    rw [show W * y + (x + 1) = W * y + x + 1 by omega, bcn_s ix.1] at HQ
    refine rh1.up (rX1_blackc_127 hh _ _ _ _ _ _ hx ?_)
    rw [m1]
    refine ⟨fun _ => rh1.s (vX1_blackc_145 hh (E M g x x0 (by omega)) (LE0 rfl)) ?_, fun z => by omega⟩
    refine rh1.up (rX1_blackc_148 hh _ _ _ _ _ _ _ hx ?_)
    rw [m2]
    refine ⟨⟨ix.1, ix.2.2⟩, fun t ht => ?_⟩
    rw [ht]
    exact ⟨⟨by omega, by omega⟩, ⟨by omega, by omega⟩, HQ⟩
theorem h_rowsc (hh : rh_hs wh) {A0 : rhM} {x2 x7 W H : Int} {f : Int → Int} (hx : rh_bl wh 0 x7 0) (hx9 : x7 ≠ 9) (e1 : A0 x7 1 = W) (e2 : A0 x7 2 = H) (s1 : A0 8 1 = W) (hW : 0 ≤ W ∧ W ≤ 128) (hH : 0 ≤ H ∧ H ≤ 96) (hN : W * H ≤ 6144) (E : ∀ M, frx (fun c _ => c = 9) A0 M → ∀ x y, 0 ≤ x → x < W → 0 ≤ y → y < H → eC wh YX11_isBlack 3 [(2, 20), (2, x7), (0, x), (0, y)] M (f (W * y + x)) M) :
    ∀ (u : Nat) (y : Int) (M : rhM), y + u = H → 0 ≤ y → frx (fun c _ => c = 9) A0 M → Spi f M (W * y) → ∃ M', eS wh YX1_black (3 + 1) 114 [(0, 2, 0), (2, 0, x2), (6, 2, 20), (7, 2, x7), (8, 0, bcn f (W * y).toNat), (9, 0, y)] [] M 114 [(0, 2, 0), (2, 0, x2), (6, 2, 20), (7, 2, x7), (8, 0, bcn f (W * H).toNat), (9, 0, H)] [] M' ∧ frx (fun c _ => c = 9) A0 M' ∧ Spi f M' (W * H) := by
  intro u
  induction u with
  | zero =>
    intro y M hk y0 g s
    have ek : y = H := by omega
    rw [ek] at s ⊢
    exact ⟨M, eS.rf, g, s⟩
  | succ u ih =>
    intro y M hk y0 g s
    have e0 : W * y + 0 = W * y := Int.add_zero _
    obtain ⟨M1, L1, g1, s1'⟩ := h_rowc hh (x2 := x2) (y := y) hx hx9 e1 s1 hW ⟨y0, by omega⟩ hN (fun M g x x0 x1 => E M g x y x0 x1 y0 (by omega)) W.toNat 0 M (by omega) (by decide) g (by rw [e0]; exact s)
    rw [e0] at L1
    have e3 : W * y + W = W * (y + 1) := by rw [Int.mul_add, Int.mul_one]
    rw [e3] at L1 s1'
    have m2 : M x7 2 = H := by rw [g x7 2 hx9]; exact e2
    have m1 : M1 x7 1 = W := by rw [g1 x7 1 hx9]; exact e1
    obtain ⟨M', L, r⟩ := ih (y + 1) M1 (by omega) (by omega) g1 s1'
    refine ⟨M', eS.tr (eS.of (fun Q HQ => ?_)) L, r⟩
    refine rh1.up (rX1_blackc_114 hh _ _ _ _ _ hx ?_)
    rw [m2]
    refine ⟨fun _ => rh1.s L1 ?_, fun z => by omega⟩
    refine rh1.up (rX1_blackc_127 hh _ _ _ _ _ _ hx ?_)
    rw [m1]
    exact ⟨fun z => by omega, fun _ => ⟨⟨by omega, by omega⟩, HQ⟩⟩
end BlackL
