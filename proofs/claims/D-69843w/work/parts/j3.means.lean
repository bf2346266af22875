/-! ===== LAYER 2: the black rule by means ===== -/
section Means
variable {wh wm : rhW}
/-- first and last place of a window -/
noncomputable def fsO (c b : Int) : Int := rh_if (0 < c - b) (c - b) 0
noncomputable def lsO (c b s : Int) : Int := rh_if (c + b < s - 1) (c + b) (s - 1)
theorem fsO_b {c b : Int} (hc : 0 ≤ c) (hb : 0 ≤ b) : 0 ≤ fsO c b ∧ fsO c b ≤ c ∧ c - fsO c b ≤ b := by
  unfold fsO
  by_cases y : 0 < c - b
  · rw [rh_if_t y]; omega
  · rw [rh_if_f y]; omega
theorem lsO_b {c b s : Int} (hc : 0 ≤ c ∧ c < s) (hb : 0 ≤ b) : c ≤ lsO c b s ∧ lsO c b s < s ∧ lsO c b s - c ≤ b := by
  unfold lsO
  by_cases y : c + b < s - 1
  · rw [rh_if_t y]; omega
  · rw [rh_if_f y]; omega
theorem fsO_m {c b : Int} : rh_if ((c - b) < 0) (0 : Int) (c - b) = fsO c b := by
  unfold fsO
  by_cases y : c - b < 0
  · rw [rh_if_t y, rh_if_f (by omega)]
  · rw [rh_if_f y]
    by_cases z : 0 < c - b
    · rw [rh_if_t z]
    · rw [rh_if_f z]; omega
theorem lsO_m {c b s : Int} : rh_if ((s - 1) < (c + b)) (s - 1) (c + b) = lsO c b s := by
  unfold lsO
  by_cases y : c + b < s - 1
  · rw [rh_if_t y, rh_if_f (by omega)]
  · rw [rh_if_f y]
    by_cases z : s - 1 < c + b
    · rw [rh_if_t z]
    · rw [rh_if_f z]; omega
theorem c_firstB (hh : rh_hs wh) {A : rhM} {b c : Int} (hb : A 19 1 = b) (hr : rI (c - b)) : eC wh YX8_firstOf 1 [(2, 19), (0, c)] A (fsO c b) A := by
  refine eC.of1 (rC1.of (by decide) (LE0 rfl) ?_)
  refine rh1.of (rX8_firstOfb_0 hh _ _ ?_)
  rw [hb]
  exact ⟨hr, rfl, rfl⟩
theorem c_lastB (hh : rh_hs wh) {A : rhM} {b c s : Int} (hb : A 19 1 = b) (hr : rI (c + b)) (hs : rI (s - 1)) : eC wh YX8_lastOf 1 [(2, 19), (0, c), (0, s)] A (lsO c b s) A := by
  refine eC.of1 (rC1.of (by decide) (LE0 rfl) ?_)
  refine rh1.of (rX8_lastOfb_0 hh _ _ _ ?_)
  rw [hb]
  exact ⟨hr, hs, rfl, rfl⟩
theorem c_firstC (hh : rh_hs wh) {A : rhM} {b c : Int} (hb : A 20 1 = b) (hr : rI (c - b)) : eC wh YX8_firstOf 1 [(2, 20), (0, c)] A (fsO c b) A := by
  refine eC.of1 (rC1.of (by decide) (LE0 rfl) ?_)
  refine rh1.of (rX8_firstOfc_0 hh _ _ ?_)
  rw [hb]
  exact ⟨hr, rfl, rfl⟩
theorem c_lastC (hh : rh_hs wh) {A : rhM} {b c s : Int} (hb : A 20 1 = b) (hr : rI (c + b)) (hs : rI (s - 1)) : eC wh YX8_lastOf 1 [(2, 20), (0, c), (0, s)] A (lsO c b s) A := by
  refine eC.of1 (rC1.of (by decide) (LE0 rfl) ?_)
  refine rh1.of (rX8_lastOfc_0 hh _ _ _ ?_)
  rw [hb]
  exact ⟨hr, hs, rfl, rfl⟩
/-- sums over a window's row, over its rows -/
def rw1 (F : Int → Int → Int) (v u0 : Int) : Nat → Int
  | 0 => 0
  | k + 1 => rw1 F v u0 k + F (u0 + k) v
def rw2 (F : Int → Int → Int) (v0 u0 : Int) (K : Nat) : Nat → Int
  | 0 => 0
  | j + 1 => rw2 F v0 u0 K j + rw1 F (v0 + j) u0 K
theorem rw1_b {F : Int → Int → Int} {C v u0 : Int} : ∀ k : Nat, (∀ i : Int, 0 ≤ i → i < k → 0 ≤ F (u0 + i) v ∧ F (u0 + i) v ≤ C) → 0 ≤ rw1 F v u0 k ∧ rw1 F v u0 k ≤ C * k
  | 0, _ => by
    show 0 ≤ (0 : Int) ∧ (0 : Int) ≤ C * ((0 : Nat) : Int)
    rw [Int.ofNat_zero, Int.mul_zero]
    exact ⟨Int.le_refl _, Int.le_refl _⟩
  | k + 1, h => by
    have q := rw1_b (F := F) (C := C) (v := v) (u0 := u0) k (fun i i0 i1 => h i i0 (by omega))
    have := h k (by omega) (by omega)
    show 0 ≤ rw1 F v u0 k + F (u0 + k) v ∧ rw1 F v u0 k + F (u0 + k) v ≤ C * ((k + 1 : Nat) : Int)
    rw [show ((k + 1 : Nat) : Int) = (k : Int) + 1 by omega, Int.mul_add]
    omega
theorem rw2_b {F : Int → Int → Int} {C v0 u0 : Int} {K : Nat} : ∀ j : Nat, (∀ e i : Int, 0 ≤ e → e < j → 0 ≤ i → i < K → 0 ≤ F (u0 + i) (v0 + e) ∧ F (u0 + i) (v0 + e) ≤ C) → 0 ≤ rw2 F v0 u0 K j ∧ rw2 F v0 u0 K j ≤ C * K * j
  | 0, _ => by
    show 0 ≤ (0 : Int) ∧ (0 : Int) ≤ C * K * ((0 : Nat) : Int)
    rw [Int.ofNat_zero, Int.mul_zero]
    exact ⟨Int.le_refl _, Int.le_refl _⟩
  | j + 1, h => by
    have q := rw2_b (F := F) (C := C) (v0 := v0) (u0 := u0) (K := K) j (fun e i e0 e1 i0 i1 => h e i e0 (by omega) i0 i1)
    have := rw1_b (F := F) (C := C) (v := v0 + j) (u0 := u0) K (fun i i0 i1 => h j i (by omega) (by omega) i0 i1)
    show 0 ≤ rw2 F v0 u0 K j + rw1 F (v0 + j) u0 K ∧ rw2 F v0 u0 K j + rw1 F (v0 + j) u0 K ≤ C * K * ((j + 1 : Nat) : Int)
    rw [show ((j + 1 : Nat) : Int) = (j : Int) + 1 by omega, Int.mul_add]
    omega
theorem ixW {W H u v : Int} (hu : 0 ≤ u ∧ u < W) (hv : 0 ≤ v ∧ v < H) (hN : W * H ≤ 6144) : 0 ≤ W * v + u ∧ W * v + u < W * H ∧ W * v + u < 6144 := by
  have h1 := mul_lt hu.1 hu.2 hv.1 hv.2
  have h2 : 0 ≤ W * v := Int.mul_nonneg (by omega) hv.1
  omega
/-- grey at a place -/
abbrev Gg (g : Int → Int) (W : Int) (u v : Int) : Int := g (W * v + u)
abbrev Gs (g : Int → Int) (W : Int) (u v : Int) : Int := g (W * v + u) * g (W * v + u)
abbrev G1 (_u _v : Int) : Int := 1
/-- a page as a black rule sees it -/
def Pgv (A : rhM) (x1 : Int) (g : Int → Int) (W H : Int) : Prop := A x1 1 = W ∧ A x1 2 = H ∧ (0 ≤ W ∧ W ≤ 128) ∧ (0 ≤ H ∧ H ≤ 96) ∧ W * H ≤ 6144 ∧ (∀ k, 0 ≤ k → k < W * H → rh_and (A (x1 + 1) k) 255 = g k) ∧ ∀ k, 0 ≤ k → k < W * H → 0 ≤ g k ∧ g k ≤ 255
def Pgm (B : rhM) (p : Int) (g : Int → Int) (W H : Int) : Prop := B 4 p = W ∧ B 5 p = H ∧ (0 ≤ W ∧ W ≤ 128) ∧ (0 ≤ H ∧ H ≤ 96) ∧ W * H ≤ 6144 ∧ (∀ k, 0 ≤ k → k < W * H → B 3 (6144 * p + k) = g k) ∧ ∀ k, 0 ≤ k → k < W * H → 0 ≤ g k ∧ g k ≤ 255
theorem sqw {a : Int} (h : 0 ≤ a ∧ a ≤ 255) : 0 ≤ a * a ∧ a * a ≤ 65025 := by
  refine ⟨Int.mul_nonneg h.1 h.1, ?_⟩
  have := Int.mul_le_mul h.2 h.2 h.1 (show (0 : Int) ≤ 255 by decide)
  omega
theorem h_mi (hh : rh_hs wh) {A : rhM} {x1 x y b W H v u0 n0 s0 q0 : Int} {g : Int → Int} {K : Nat} (hx : rh_bl wh 5 x1 0) (P : Pgv A x1 g W H) (hb : A 19 1 = b) (hb2 : 0 ≤ b ∧ b ≤ 7) (xx : 0 ≤ x ∧ x < W) (hv : 0 ≤ v ∧ v < H) (hu0 : 0 ≤ u0) (hK : u0 + K = lsO x b W + 1) (hK2 : K ≤ 15) (hn : 0 ≤ n0 ∧ n0 ≤ 1000) (hs : 0 ≤ s0 ∧ s0 ≤ 1000000) (hq : 0 ≤ q0 ∧ q0 ≤ 100000000) : ∀ (u k : Nat), k + u = K →
    eS wh YX10_isBlack 2 37 [(0, 2, 19), (1, 2, x1), (2, 0, x), (3, 0, y), (4, 1, n0 + rw1 G1 v u0 k), (6, 1, s0 + rw1 (Gg g W) v u0 k), (8, 1, q0 + rw1 (Gs g W) v u0 k), (10, 0, v), (11, 0, u0 + (k : Int))] [] A 37 [(0, 2, 19), (1, 2, x1), (2, 0, x), (3, 0, y), (4, 1, n0 + rw1 G1 v u0 K), (6, 1, s0 + rw1 (Gg g W) v u0 K), (8, 1, q0 + rw1 (Gs g W) v u0 K), (10, 0, v), (11, 0, u0 + (K : Int))] [] A := by
  obtain ⟨e1, e2, W1, H1, hN, eg, gb⟩ := P
  have lb := lsO_b (c := x) (b := b) (s := W) xx hb2.1
  intro u
  induction u with
  | zero =>
    intro k hk
    rw [show k = K by omega]
    exact eS.rf
  | succ u ih =>
    intro k hk
    have ig : ∀ i : Int, 0 ≤ i → i < K → 0 ≤ W * v + (u0 + i) ∧ W * v + (u0 + i) < W * H ∧ W * v + (u0 + i) < 6144 := fun i i0 i1 => ixW ⟨by omega, by omega⟩ hv hN
    have b1 := rw1_b (F := G1) (C := 1) (v := v) (u0 := u0) k (fun i i0 i1 => ⟨show (0 : Int) ≤ 1 by decide, show (1 : Int) ≤ 1 by decide⟩)
    have b2 := rw1_b (F := Gg g W) (C := 255) (v := v) (u0 := u0) k (fun i i0 i1 => gb _ (ig i i0 (by omega)).1 (ig i i0 (by omega)).2.1)
    have b3 := rw1_b (F := Gs g W) (C := 65025) (v := v) (u0 := u0) k (fun i i0 i1 => sqw (gb _ (ig i i0 (by omega)).1 (ig i i0 (by omega)).2.1))
    have ik := ig k (by omega) (by omega)
    have gk := gb _ ik.1 ik.2.1
    have sk := sqw gk
    refine eS.tr (eS.of (fun Q HQ => ?_)) (ih (k + 1) (by omega))
    have h1 : n0 + rw1 G1 v u0 (k + 1) = n0 + rw1 G1 v u0 k + 1 := by show n0 + (_ + 1) = _; omega
    have h2 : s0 + rw1 (Gg g W) v u0 (k + 1) = s0 + rw1 (Gg g W) v u0 k + g (W * v + (u0 + k)) := (Int.add_assoc _ _ _).symm
    have h3 : q0 + rw1 (Gs g W) v u0 (k + 1) = q0 + rw1 (Gs g W) v u0 k + g (W * v + (u0 + k)) * g (W * v + (u0 + k)) := (Int.add_assoc _ _ _).symm
    have h4 : u0 + ((k + 1 : Nat) : Int) = u0 + (k : Int) + 1 := by omega
    rw [h1, h2, h3, h4] at HQ
    refine rh1.of (rX10_isBlack_37 hh _ _ _ _ _ _ _ _ _ hx ?_)
    rw [e1]
    refine rh1.s (vX10_isBlack_45 hh (c_lastB hh hb ⟨by omega, by omega⟩ ⟨by omega, by omega⟩) (LE0 rfl)) ?_
    refine rh1.of (rX10_isBlack_48 hh _ _ _ _ _ _ _ _ _ _ _ hx ?_)
    rw [e1]
    refine ⟨fun _ => ⟨⟨ik.1, ik.2.2⟩, fun t ht => ?_⟩, fun z => by omega⟩
    rw [eg _ ik.1 ik.2.1] at ht
    rw [ht]
    exact ⟨⟨by omega, by omega⟩, ⟨by omega, by omega⟩, ⟨by omega, by omega⟩, ⟨by omega, by omega⟩, HQ⟩
theorem h_mo (hh : rh_hs wh) {A : rhM} {x1 x y b W H : Int} {g : Int → Int} {K J : Nat} (hx : rh_bl wh 5 x1 0) (P : Pgv A x1 g W H) (hb : A 19 1 = b) (hb2 : 0 ≤ b ∧ b ≤ 7) (xx : 0 ≤ x ∧ x < W) (yy : 0 ≤ y ∧ y < H) (hK : fsO x b + K = lsO x b W + 1) (hJ : fsO y b + J = lsO y b H + 1) : ∀ (u j : Nat), j + u = J →
    eS wh YX10_isBlack 2 16 [(0, 2, 19), (1, 2, x1), (2, 0, x), (3, 0, y), (4, 1, rw2 G1 (fsO y b) (fsO x b) K j), (6, 1, rw2 (Gg g W) (fsO y b) (fsO x b) K j), (8, 1, rw2 (Gs g W) (fsO y b) (fsO x b) K j), (10, 0, fsO y b + (j : Int))] [] A 16 [(0, 2, 19), (1, 2, x1), (2, 0, x), (3, 0, y), (4, 1, rw2 G1 (fsO y b) (fsO x b) K J), (6, 1, rw2 (Gg g W) (fsO y b) (fsO x b) K J), (8, 1, rw2 (Gs g W) (fsO y b) (fsO x b) K J), (10, 0, fsO y b + (J : Int))] [] A := by
  have P' := P
  obtain ⟨e1, e2, W1, H1, hN, eg, gb⟩ := P
  have lx := lsO_b (c := x) (b := b) (s := W) xx hb2.1
  have ly := lsO_b (c := y) (b := b) (s := H) yy hb2.1
  have fx := fsO_b (c := x) (b := b) xx.1 hb2.1
  have fy := fsO_b (c := y) (b := b) yy.1 hb2.1
  have K15 : K ≤ 15 := by omega
  have J15 : J ≤ 15 := by omega
  generalize hu0 : fsO x b = u0 at *
  generalize hv0 : fsO y b = v0 at *
  intro u
  induction u with
  | zero =>
    intro j hj
    rw [show j = J by omega]
    exact eS.rf
  | succ u ih =>
    intro j hj
    have ig : ∀ e i : Int, 0 ≤ e → e < j → 0 ≤ i → i < K → 0 ≤ W * (v0 + e) + (u0 + i) ∧ W * (v0 + e) + (u0 + i) < W * H ∧ W * (v0 + e) + (u0 + i) < 6144 := fun e i e0 e1 i0 i1 => ixW ⟨by omega, by omega⟩ ⟨by omega, by omega⟩ hN
    have kj : (K : Int) * j ≤ 15 * 15 := Int.mul_le_mul (by omega) (by omega) (by omega) (by decide)
    have b1 := rw2_b (F := G1) (C := 1) (v0 := v0) (u0 := u0) (K := K) j (fun e i _ _ _ _ => ⟨show (0 : Int) ≤ 1 by decide, show (1 : Int) ≤ 1 by decide⟩)
    have b2 := rw2_b (F := Gg g W) (C := 255) (v0 := v0) (u0 := u0) (K := K) j (fun e i e0 e1 i0 i1 => gb _ (ig e i e0 e1 i0 i1).1 (ig e i e0 e1 i0 i1).2.1)
    have b3 := rw2_b (F := Gs g W) (C := 65025) (v0 := v0) (u0 := u0) (K := K) j (fun e i e0 e1 i0 i1 => sqw (gb _ (ig e i e0 e1 i0 i1).1 (ig e i e0 e1 i0 i1).2.1))
    rw [Int.mul_assoc] at b1 b2 b3
    have L := h_mi hh (v := v0 + j) (u0 := u0) (n0 := rw2 G1 v0 u0 K j) (s0 := rw2 (Gg g W) v0 u0 K j) (q0 := rw2 (Gs g W) v0 u0 K j) (y := y) (K := K) hx P' hb hb2 xx ⟨by omega, by omega⟩ fx.1 hK K15 ⟨by omega, by omega⟩ ⟨by omega, by omega⟩ ⟨by omega, by omega⟩ K 0 (by omega)
    have z1 : rw2 G1 v0 u0 K j + rw1 G1 (v0 + j) u0 0 = rw2 G1 v0 u0 K j := Int.add_zero _
    have z2 : rw2 (Gg g W) v0 u0 K j + rw1 (Gg g W) (v0 + j) u0 0 = rw2 (Gg g W) v0 u0 K j := Int.add_zero _
    have z3 : rw2 (Gs g W) v0 u0 K j + rw1 (Gs g W) (v0 + j) u0 0 = rw2 (Gs g W) v0 u0 K j := Int.add_zero _
    have z4 : u0 + ((0 : Nat) : Int) = u0 := Int.add_zero _
    rw [z1, z2, z3, z4] at L
    refine eS.tr (eS.of (fun Q HQ => ?_)) (ih (j + 1) (by omega))
    rw [show v0 + ((j + 1 : Nat) : Int) = v0 + (j : Int) + 1 by omega] at HQ
    refine rh1.of (rX10_isBlack_16 hh _ _ _ _ _ _ _ _ hx ?_)
    rw [e2]
    refine rh1.s (vX10_isBlack_24 hh (c_lastB hh hb ⟨by omega, by omega⟩ ⟨by omega, by omega⟩) (LE0 rfl)) ?_
    refine rh1.of (rX10_isBlack_27 hh _ _ _ _ _ _ _ _ _ _ hx ?_)
    refine ⟨fun _ => ?_, fun z => by omega⟩
    refine rh1.s (vX10_isBlack_32 hh (c_firstB hh hb ⟨by omega, by omega⟩) (LE0 rfl)) ?_
    refine rh1.of (rX10_isBlack_35 hh _ _ _ _ _ _ _ _ _ hx ?_)
    rw [hu0]
    refine rh1.s L ?_
    refine rh1.of (rX10_isBlack_37 hh _ _ _ _ _ _ _ _ _ hx ?_)
    rw [e1]
    refine rh1.s (vX10_isBlack_45 hh (c_lastB hh hb ⟨by omega, by omega⟩ ⟨by omega, by omega⟩) (LE0 rfl)) ?_
    refine rh1.of (rX10_isBlack_48 hh _ _ _ _ _ _ _ _ _ _ _ hx ?_)
    rw [e1]
    exact ⟨fun z => by omega, fun _ => ⟨⟨by omega, by omega⟩, HQ⟩⟩
/-- no number goes over -/
theorem mnb9 {n s q a c : Int} (hn : 0 ≤ n ∧ n ≤ 225) (hs : 0 ≤ s ∧ s ≤ 57375) (hq : 0 ≤ q ∧ q ≤ 14630625) (ha : 0 ≤ a ∧ a ≤ 8) (hc : 0 ≤ c ∧ c ≤ 255) (h3 : n ≤ 49 ∧ s ≤ 12495 ∧ q ≤ 3186225) : rL (((8 * n) * c) - (s * (8 - a))) ∧ rI (a * a) ∧ rL ((((((8 * n) * c) - (s * (8 - a))) * (((8 * n) * c) - (s * (8 - a))) * n) * n) * 16384) ∧ rL ((((a * a) * s) * s) * ((n * q) - (s * s))) := by
  have m1 : 0 ≤ (8 * n) * c ∧ (8 * n) * c ≤ 392 * 255 := ⟨Int.mul_nonneg (by omega) hc.1, Int.mul_le_mul (by omega) hc.2 hc.1 (by decide)⟩
  have m2 : 0 ≤ s * (8 - a) ∧ s * (8 - a) ≤ 12495 * 8 := ⟨Int.mul_nonneg hs.1 (by omega), Int.mul_le_mul h3.2.1 (by omega) (by omega) (by decide)⟩
  obtain ⟨X, hX⟩ : ∃ X, X = ((8 * n) * c) - (s * (8 - a)) := ⟨_, rfl⟩
  rw [← hX]
  have bX : -99960 ≤ X ∧ X ≤ 99960 := by omega
  have xx : 0 ≤ X * X ∧ X * X ≤ 99960 * 99960 := by
    rcases Int.le_total 0 X with h | h
    · exact ⟨Int.mul_nonneg h h, Int.mul_le_mul bX.2 bX.2 h (by decide)⟩
    · rw [← Int.neg_mul_neg]
      exact ⟨Int.mul_nonneg (by omega) (by omega), Int.mul_le_mul (by omega) (by omega) (by omega) (by decide)⟩
  have x2 : 0 ≤ X * X * n ∧ X * X * n ≤ 99960 * 99960 * 49 := ⟨Int.mul_nonneg xx.1 hn.1, Int.mul_le_mul xx.2 h3.1 hn.1 (by decide)⟩
  have x3 : 0 ≤ X * X * n * n ∧ X * X * n * n ≤ 99960 * 99960 * 49 * 49 := ⟨Int.mul_nonneg x2.1 hn.1, Int.mul_le_mul x2.2 h3.1 hn.1 (by decide)⟩
  have aa : 0 ≤ a * a ∧ a * a ≤ 8 * 8 := ⟨Int.mul_nonneg ha.1 ha.1, Int.mul_le_mul ha.2 ha.2 ha.1 (by decide)⟩
  have s1 : 0 ≤ a * a * s ∧ a * a * s ≤ 8 * 8 * 12495 := ⟨Int.mul_nonneg aa.1 hs.1, Int.mul_le_mul aa.2 h3.2.1 hs.1 (by decide)⟩
  have s2 : 0 ≤ a * a * s * s ∧ a * a * s * s ≤ 8 * 8 * 12495 * 12495 := ⟨Int.mul_nonneg s1.1 hs.1, Int.mul_le_mul s1.2 h3.2.1 hs.1 (by decide)⟩
  have ss : 0 ≤ s * s ∧ s * s ≤ 12495 * 12495 := ⟨Int.mul_nonneg hs.1 hs.1, Int.mul_le_mul h3.2.1 h3.2.1 hs.1 (by decide)⟩
  have nq : 0 ≤ n * q ∧ n * q ≤ 49 * 3186225 := ⟨Int.mul_nonneg hn.1 hq.1, Int.mul_le_mul h3.1 h3.2.2 hq.1 (by decide)⟩
  refine ⟨⟨by omega, by omega⟩, ⟨by omega, by omega⟩, ⟨by omega, by omega⟩, ?_⟩
  obtain ⟨T, hT⟩ : ∃ T, T = a * a * s * s := ⟨_, rfl⟩
  obtain ⟨D, hD⟩ : ∃ D, D = n * q - s * s := ⟨_, rfl⟩
  rw [← hT, ← hD]
  rw [← hT] at s2
  have bD : -156125025 ≤ D ∧ D ≤ 156125025 := by omega
  rcases Int.le_total 0 D with h | h
  · have := Int.mul_le_mul s2.2 bD.2 h (show (0 : Int) ≤ 8 * 8 * 12495 * 12495 by decide)
    have := Int.mul_nonneg s2.1 h
    exact ⟨by omega, by omega⟩
  · have e : T * D = -(T * -D) := by rw [Int.mul_neg, Int.neg_neg]
    have := Int.mul_le_mul s2.2 (show -D ≤ 156125025 by omega) (by omega) (show (0 : Int) ≤ 8 * 8 * 12495 * 12495 by decide)
    have := Int.mul_nonneg s2.1 (show 0 ≤ -D by omega)
    rw [e]
    exact ⟨by omega, by omega⟩
/-- the answer -/
noncomputable def mnX (X n s q a : Int) : Int := rh_if ((X ≤ 0) ∨ (((((X * X) * n) * n) * 16384) ≤ ((((a * a) * s) * s) * ((n * q) - (s * s))))) (1 : Int) 0
noncomputable def mnV (n s q a c : Int) : Int := mnX (((8 * n) * c) - (s * (8 - a))) n s q a
noncomputable def mnR (g : Int → Int) (W H x y a b : Int) : Int := mnV (rw2 G1 (fsO y b) (fsO x b) (lsO x b W + 1 - fsO x b).toNat (lsO y b H + 1 - fsO y b).toNat) (rw2 (Gg g W) (fsO y b) (fsO x b) (lsO x b W + 1 - fsO x b).toNat (lsO y b H + 1 - fsO y b).toNat) (rw2 (Gs g W) (fsO y b) (fsO x b) (lsO x b W + 1 - fsO x b).toNat (lsO y b H + 1 - fsO y b).toNat) a (g (W * y + x))
theorem mnR_b {g : Int → Int} {W H x y a b : Int} : 0 ≤ mnR g W H x y a b ∧ mnR g W H x y a b ≤ 1 := by
  unfold mnR mnV mnX
  exact if10.2.2
theorem win_b {g : Int → Int} {W H x y b : Int} {K J : Nat} (gb : ∀ k, 0 ≤ k → k < W * H → 0 ≤ g k ∧ g k ≤ 255) (hN : W * H ≤ 6144) (hb2 : 1 ≤ b ∧ b ≤ 3) (xx : 0 ≤ x ∧ x < W) (yy : 0 ≤ y ∧ y < H) (hK : fsO x b + K = lsO x b W + 1) (hJ : fsO y b + J = lsO y b H + 1) : (0 ≤ rw2 G1 (fsO y b) (fsO x b) K J ∧ rw2 G1 (fsO y b) (fsO x b) K J ≤ 49) ∧ (0 ≤ rw2 (Gg g W) (fsO y b) (fsO x b) K J ∧ rw2 (Gg g W) (fsO y b) (fsO x b) K J ≤ 12495) ∧ (0 ≤ rw2 (Gs g W) (fsO y b) (fsO x b) K J ∧ rw2 (Gs g W) (fsO y b) (fsO x b) K J ≤ 3186225) := by
  have lx := lsO_b (c := x) (b := b) (s := W) xx (by omega)
  have ly := lsO_b (c := y) (b := b) (s := H) yy (by omega)
  have fx := fsO_b (c := x) (b := b) xx.1 (by omega)
  have fy := fsO_b (c := y) (b := b) yy.1 (by omega)
  generalize fsO x b = u0 at *
  generalize fsO y b = v0 at *
  have kj : (K : Int) * J ≤ 7 * 7 := Int.mul_le_mul (by omega) (by omega) (by omega) (by decide)
  have ig : ∀ e i : Int, 0 ≤ e → e < J → 0 ≤ i → i < K → 0 ≤ W * (v0 + e) + (u0 + i) ∧ W * (v0 + e) + (u0 + i) < W * H ∧ W * (v0 + e) + (u0 + i) < 6144 := fun e i e0 e1 i0 i1 => ixW ⟨by omega, by omega⟩ ⟨by omega, by omega⟩ hN
  have b1 := rw2_b (F := G1) (C := 1) (v0 := v0) (u0 := u0) (K := K) J (fun e i _ _ _ _ => ⟨show (0 : Int) ≤ 1 by decide, show (1 : Int) ≤ 1 by decide⟩)
  have b2 := rw2_b (F := Gg g W) (C := 255) (v0 := v0) (u0 := u0) (K := K) J (fun e i e0 e1 i0 i1 => gb _ (ig e i e0 e1 i0 i1).1 (ig e i e0 e1 i0 i1).2.1)
  have b3 := rw2_b (F := Gs g W) (C := 65025) (v0 := v0) (u0 := u0) (K := K) J (fun e i e0 e1 i0 i1 => sqw (gb _ (ig e i e0 e1 i0 i1).1 (ig e i e0 e1 i0 i1).2.1))
  rw [Int.mul_assoc] at b1 b2 b3
  exact ⟨⟨by omega, by omega⟩, ⟨by omega, by omega⟩, ⟨by omega, by omega⟩⟩
theorem h_means (hh : rh_hs wh) {A : rhM} {x1 x y a b W H : Int} {g : Int → Int} (hx : rh_bl wh 5 x1 0) (P : Pgv A x1 g W H) (ha : A 19 0 = a) (hb : A 19 1 = b) (ha2 : 0 ≤ a ∧ a ≤ 8) (hb2 : 1 ≤ b ∧ b ≤ 3) (xx : 0 ≤ x ∧ x < W) (yy : 0 ≤ y ∧ y < H) : eC wh YX10_isBlack 2 [(2, 19), (2, x1), (0, x), (0, y)] A (mnR g W H x y a b) A := by
  have P' := P
  obtain ⟨e1, e2, W1, H1, hN, eg, gb⟩ := P
  have lx := lsO_b (c := x) (b := b) (s := W) xx (by omega)
  have ly := lsO_b (c := y) (b := b) (s := H) yy (by omega)
  have fx := fsO_b (c := x) (b := b) xx.1 (by omega)
  have fy := fsO_b (c := y) (b := b) yy.1 (by omega)
  obtain ⟨K, hKd⟩ : ∃ K, K = (lsO x b W + 1 - fsO x b).toNat := ⟨_, rfl⟩
  obtain ⟨J, hJd⟩ : ∃ J, J = (lsO y b H + 1 - fsO y b).toNat := ⟨_, rfl⟩
  have hK : fsO x b + K = lsO x b W + 1 := by omega
  have hJ : fsO y b + J = lsO y b H + 1 := by omega
  have wb := win_b (g := g) gb hN hb2 xx yy hK hJ
  have L := h_mo hh hx P' hb ⟨by omega, by omega⟩ xx yy hK hJ J 0 (by omega)
  rw [show fsO y b + ((0 : Nat) : Int) = fsO y b from Int.add_zero _] at L
  unfold mnR
  rw [← hKd, ← hJd]
  have ik := ixW (u := x) (v := y) xx yy hN
  have gk := gb _ ik.1 ik.2.1
  refine eC.of1 (rC1.of (by decide) (LE0 rfl) ?_)
  refine rh1.of (rX10_isBlack_0 hh _ _ _ _ hx ?_)
  refine rh1.s (vX10_isBlack_11 hh (c_firstB hh hb ⟨by omega, by omega⟩) (LE0 rfl)) ?_
  refine rh1.of (rX10_isBlack_14 hh _ _ _ _ _ _ _ _ hx ?_)
  refine rh1.s L ?_
  refine rh1.of (rX10_isBlack_16 hh _ _ _ _ _ _ _ _ hx ?_)
  rw [e2]
  refine rh1.s (vX10_isBlack_24 hh (c_lastB hh hb ⟨by omega, by omega⟩ ⟨by omega, by omega⟩) (LE0 rfl)) ?_
  refine rh1.of (rX10_isBlack_27 hh _ _ _ _ _ _ _ _ _ _ hx ?_)
  rw [e1, ha]
  refine ⟨fun z => by omega, fun _ => ⟨⟨ik.1, ik.2.2⟩, fun t ht => ?_⟩⟩
  rw [eg _ ik.1 ik.2.1] at ht
  have mb := mnb9 (n := rw2 G1 (fsO y b) (fsO x b) K J) (s := rw2 (Gg g W) (fsO y b) (fsO x b) K J) (q := rw2 (Gs g W) (fsO y b) (fsO x b) K J) (a := a) (c := g (W * y + x)) ⟨by omega, by omega⟩ ⟨by omega, by omega⟩ ⟨by omega, by omega⟩ ha2 gk ⟨by omega, by omega⟩
  rw [← ht] at mb
  refine ⟨mb.1, fun _ => mb.2.1, fun _ => mb.2.2.1, fun _ => mb.2.2.2, ?_, rfl⟩
  unfold mnV mnX
  rw [← ht]
theorem m_mi (hm : rh_ms wm) {B : rhM} {p x y a b W H v u0 n0 s0 q0 : Int} {g : Int → Int} {K : Nat} (hp : 0 ≤ p ∧ p < 8) (P : Pgm B p g W H) (hb2 : 0 ≤ b ∧ b ≤ 7) (xx : 0 ≤ x ∧ x < W) (hv : 0 ≤ v ∧ v < H) (hu0 : 0 ≤ u0) (hK : u0 + K = lsO x b W + 1) (hK2 : K ≤ 15) (hn : 0 ≤ n0 ∧ n0 ≤ 1000) (hs : 0 ≤ s0 ∧ s0 ≤ 1000000) (hq : 0 ≤ q0 ∧ q0 ≤ 100000000) : ∀ (u k : Nat), k + u = K →
    eS wm YX32_byMeans 1 49 [(0, 2, 0), (1, 0, p), (2, 0, x), (3, 0, y), (4, 0, a), (5, 0, b), (6, 1, n0 + rw1 G1 v u0 k), (8, 1, s0 + rw1 (Gg g W) v u0 k), (10, 1, q0 + rw1 (Gs g W) v u0 k), (12, 0, v), (13, 0, u0 + (k : Int))] [] B 49 [(0, 2, 0), (1, 0, p), (2, 0, x), (3, 0, y), (4, 0, a), (5, 0, b), (6, 1, n0 + rw1 G1 v u0 K), (8, 1, s0 + rw1 (Gg g W) v u0 K), (10, 1, q0 + rw1 (Gs g W) v u0 K), (12, 0, v), (13, 0, u0 + (K : Int))] [] B := by
  obtain ⟨e1, e2, W1, H1, hN, eg, gb⟩ := P
  have lb := lsO_b (c := x) (b := b) (s := W) xx hb2.1
  intro u
  induction u with
  | zero =>
    intro k hk
    rw [show k = K by omega]
    exact eS.rf
  | succ u ih =>
    intro k hk
    have ig : ∀ i : Int, 0 ≤ i → i < K → 0 ≤ W * v + (u0 + i) ∧ W * v + (u0 + i) < W * H ∧ W * v + (u0 + i) < 6144 := fun i i0 i1 => ixW ⟨by omega, by omega⟩ hv hN
    have b1 := rw1_b (F := G1) (C := 1) (v := v) (u0 := u0) k (fun i i0 i1 => ⟨show (0 : Int) ≤ 1 by decide, show (1 : Int) ≤ 1 by decide⟩)
    have b2 := rw1_b (F := Gg g W) (C := 255) (v := v) (u0 := u0) k (fun i i0 i1 => gb _ (ig i i0 (by omega)).1 (ig i i0 (by omega)).2.1)
    have b3 := rw1_b (F := Gs g W) (C := 65025) (v := v) (u0 := u0) k (fun i i0 i1 => sqw (gb _ (ig i i0 (by omega)).1 (ig i i0 (by omega)).2.1))
    have ik := ig k (by omega) (by omega)
    have gk := gb _ ik.1 ik.2.1
    have sk := sqw gk
    refine eS.tr (eS.of (fun Q HQ => ?_)) (ih (k + 1) (by omega))
    have h1 : n0 + rw1 G1 v u0 (k + 1) = n0 + rw1 G1 v u0 k + 1 := by show n0 + (_ + 1) = _; omega
    have h2 : s0 + rw1 (Gg g W) v u0 (k + 1) = s0 + rw1 (Gg g W) v u0 k + g (W * v + (u0 + k)) := (Int.add_assoc _ _ _).symm
    have h3 : q0 + rw1 (Gs g W) v u0 (k + 1) = q0 + rw1 (Gs g W) v u0 k + g (W * v + (u0 + k)) * g (W * v + (u0 + k)) := (Int.add_assoc _ _ _).symm
    have h4 : u0 + ((k + 1 : Nat) : Int) = u0 + (k : Int) + 1 := by omega
    have e6 : ((6144 * p) + (v * W)) + (u0 + (k : Int)) = 6144 * p + (W * v + (u0 + k)) := by rw [Int.mul_comm v W]; omega
    rw [h1, h2, h3, h4] at HQ
    refine rh1.of (rX32_byMeans_49 hm _ _ _ _ _ _ _ _ _ _ _ ?_)
    rw [e1, lsO_m, e6]
    refine ⟨hp, ⟨by omega, by omega⟩, ⟨by omega, by omega⟩, fun _ => ⟨hp, ⟨by omega, by omega⟩, fun t ht => ?_⟩, fun z => by omega⟩
    rw [eg _ ik.1 ik.2.1] at ht
    rw [ht]
    exact ⟨⟨by omega, by omega⟩, ⟨by omega, by omega⟩, ⟨by omega, by omega⟩, ⟨by omega, by omega⟩, HQ⟩
theorem m_mo (hm : rh_ms wm) {B : rhM} {p x y a b W H : Int} {g : Int → Int} {K J : Nat} (hp : 0 ≤ p ∧ p < 8) (P : Pgm B p g W H) (hb2 : 0 ≤ b ∧ b ≤ 7) (xx : 0 ≤ x ∧ x < W) (yy : 0 ≤ y ∧ y < H) (hK : fsO x b + K = lsO x b W + 1) (hJ : fsO y b + J = lsO y b H + 1) : ∀ (u j : Nat), j + u = J →
    eS wm YX32_byMeans 1 19 [(0, 2, 0), (1, 0, p), (2, 0, x), (3, 0, y), (4, 0, a), (5, 0, b), (6, 1, rw2 G1 (fsO y b) (fsO x b) K j), (8, 1, rw2 (Gg g W) (fsO y b) (fsO x b) K j), (10, 1, rw2 (Gs g W) (fsO y b) (fsO x b) K j), (12, 0, fsO y b + (j : Int))] [] B 19 [(0, 2, 0), (1, 0, p), (2, 0, x), (3, 0, y), (4, 0, a), (5, 0, b), (6, 1, rw2 G1 (fsO y b) (fsO x b) K J), (8, 1, rw2 (Gg g W) (fsO y b) (fsO x b) K J), (10, 1, rw2 (Gs g W) (fsO y b) (fsO x b) K J), (12, 0, fsO y b + (J : Int))] [] B := by
  have P' := P
  obtain ⟨e1, e2, W1, H1, hN, eg, gb⟩ := P
  have lx := lsO_b (c := x) (b := b) (s := W) xx hb2.1
  have ly := lsO_b (c := y) (b := b) (s := H) yy hb2.1
  have fx := fsO_b (c := x) (b := b) xx.1 hb2.1
  have fy := fsO_b (c := y) (b := b) yy.1 hb2.1
  have K15 : K ≤ 15 := by omega
  have J15 : J ≤ 15 := by omega
  generalize hu0 : fsO x b = u0 at *
  generalize hv0 : fsO y b = v0 at *
  intro u
  induction u with
  | zero =>
    intro j hj
    rw [show j = J by omega]
    exact eS.rf
  | succ u ih =>
    intro j hj
    have ig : ∀ e i : Int, 0 ≤ e → e < j → 0 ≤ i → i < K → 0 ≤ W * (v0 + e) + (u0 + i) ∧ W * (v0 + e) + (u0 + i) < W * H ∧ W * (v0 + e) + (u0 + i) < 6144 := fun e i e0 e1 i0 i1 => ixW ⟨by omega, by omega⟩ ⟨by omega, by omega⟩ hN
    have kj : (K : Int) * j ≤ 15 * 15 := Int.mul_le_mul (by omega) (by omega) (by omega) (by decide)
    have b1 := rw2_b (F := G1) (C := 1) (v0 := v0) (u0 := u0) (K := K) j (fun e i _ _ _ _ => ⟨show (0 : Int) ≤ 1 by decide, show (1 : Int) ≤ 1 by decide⟩)
    have b2 := rw2_b (F := Gg g W) (C := 255) (v0 := v0) (u0 := u0) (K := K) j (fun e i e0 e1 i0 i1 => gb _ (ig e i e0 e1 i0 i1).1 (ig e i e0 e1 i0 i1).2.1)
    have b3 := rw2_b (F := Gs g W) (C := 65025) (v0 := v0) (u0 := u0) (K := K) j (fun e i e0 e1 i0 i1 => sqw (gb _ (ig e i e0 e1 i0 i1).1 (ig e i e0 e1 i0 i1).2.1))
    rw [Int.mul_assoc] at b1 b2 b3
    have L := m_mi hm (v := v0 + j) (u0 := u0) (n0 := rw2 G1 v0 u0 K j) (s0 := rw2 (Gg g W) v0 u0 K j) (q0 := rw2 (Gs g W) v0 u0 K j) (y := y) (a := a) (K := K) hp P' hb2 xx ⟨by omega, by omega⟩ fx.1 hK K15 ⟨by omega, by omega⟩ ⟨by omega, by omega⟩ ⟨by omega, by omega⟩ K 0 (by omega)
    have z1 : rw2 G1 v0 u0 K j + rw1 G1 (v0 + j) u0 0 = rw2 G1 v0 u0 K j := Int.add_zero _
    have z2 : rw2 (Gg g W) v0 u0 K j + rw1 (Gg g W) (v0 + j) u0 0 = rw2 (Gg g W) v0 u0 K j := Int.add_zero _
    have z3 : rw2 (Gs g W) v0 u0 K j + rw1 (Gs g W) (v0 + j) u0 0 = rw2 (Gs g W) v0 u0 K j := Int.add_zero _
    have z4 : u0 + ((0 : Nat) : Int) = u0 := Int.add_zero _
    rw [z1, z2, z3, z4] at L
    refine eS.tr (eS.of (fun Q HQ => ?_)) (ih (j + 1) (by omega))
    rw [show v0 + ((j + 1 : Nat) : Int) = v0 + (j : Int) + 1 by omega] at HQ
    refine rh1.of (rX32_byMeans_19 hm _ _ _ _ _ _ _ _ _ _ ?_)
    rw [e2, lsO_m, fsO_m]
    refine ⟨hp, ⟨by omega, by omega⟩, ⟨by omega, by omega⟩, fun _ => ⟨⟨by omega, by omega⟩, fun t ht => ?_⟩, fun z => by omega⟩
    rw [ht, hu0]
    refine rh1.s L ?_
    refine rh1.of (rX32_byMeans_49 hm _ _ _ _ _ _ _ _ _ _ _ ?_)
    rw [e1, lsO_m]
    exact ⟨hp, ⟨by omega, by omega⟩, ⟨by omega, by omega⟩, fun z => by omega, fun _ => ⟨⟨by omega, by omega⟩, HQ⟩⟩
theorem m_means (hm : rh_ms wm) {B : rhM} {p x y a b W H : Int} {g : Int → Int} (hp : 0 ≤ p ∧ p < 8) (P : Pgm B p g W H) (ha2 : 0 ≤ a ∧ a ≤ 8) (hb2 : 1 ≤ b ∧ b ≤ 3) (xx : 0 ≤ x ∧ x < W) (yy : 0 ≤ y ∧ y < H) : eC wm YX32_byMeans 1 [(2, 0), (0, p), (0, x), (0, y), (0, a), (0, b)] B (mnR g W H x y a b) B := by
  have P' := P
  obtain ⟨e1, e2, W1, H1, hN, eg, gb⟩ := P
  have lx := lsO_b (c := x) (b := b) (s := W) xx (by omega)
  have ly := lsO_b (c := y) (b := b) (s := H) yy (by omega)
  have fx := fsO_b (c := x) (b := b) xx.1 (by omega)
  have fy := fsO_b (c := y) (b := b) yy.1 (by omega)
  obtain ⟨K, hKd⟩ : ∃ K, K = (lsO x b W + 1 - fsO x b).toNat := ⟨_, rfl⟩
  obtain ⟨J, hJd⟩ : ∃ J, J = (lsO y b H + 1 - fsO y b).toNat := ⟨_, rfl⟩
  have hK : fsO x b + K = lsO x b W + 1 := by omega
  have hJ : fsO y b + J = lsO y b H + 1 := by omega
  have wb := win_b (g := g) gb hN hb2 xx yy hK hJ
  have L := m_mo hm (a := a) hp P' ⟨by omega, by omega⟩ xx yy hK hJ J 0 (by omega)
  rw [show fsO y b + ((0 : Nat) : Int) = fsO y b from Int.add_zero _] at L
  unfold mnR
  rw [← hKd, ← hJd]
  have ik := ixW (u := x) (v := y) xx yy hN
  have gk := gb _ ik.1 ik.2.1
  have e6 : ((6144 * p) + (y * W)) + x = 6144 * p + (W * y + x) := by rw [Int.mul_comm y W]; omega
  refine eC.of1 (rC1.of (by decide) (LE0 rfl) ?_)
  refine rh1.of (rX32_byMeans_0 hm _ _ _ _ _ _ ?_)
  rw [fsO_m]
  refine ⟨⟨by omega, by omega⟩, fun t ht => ?_⟩
  rw [ht]
  refine rh1.s L ?_
  refine rh1.of (rX32_byMeans_19 hm _ _ _ _ _ _ _ _ _ _ ?_)
  rw [e2, e1, lsO_m, e6]
  refine ⟨hp, ⟨by omega, by omega⟩, ⟨by omega, by omega⟩, fun z => by omega, fun _ => ⟨hp, ⟨by omega, by omega⟩, fun t ht => ?_⟩⟩
  rw [eg _ ik.1 ik.2.1] at ht
  have mb := mnb9 (n := rw2 G1 (fsO y b) (fsO x b) K J) (s := rw2 (Gg g W) (fsO y b) (fsO x b) K J) (q := rw2 (Gs g W) (fsO y b) (fsO x b) K J) (a := a) (c := g (W * y + x)) ⟨by omega, by omega⟩ ⟨by omega, by omega⟩ ⟨by omega, by omega⟩ ha2 gk ⟨by omega, by omega⟩
  rw [← ht] at mb
  refine ⟨mb.1, fun _ => mb.2.1, fun _ => mb.2.2.1, fun _ => mb.2.2.2, ?_, rfl⟩
  unfold mnV mnX
  rw [← ht]
end Means
