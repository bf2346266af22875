/-! ===== LAYER 2: the black rule by ranges ===== -/
section Range
variable {wh wm : rhW}
noncomputable def lo1 (F : Int → Int → Int) (v u0 l : Int) : Nat → Int
  | 0 => l
  | k + 1 => rh_if (F (u0 + k) v < lo1 F v u0 l k) (F (u0 + k) v) (lo1 F v u0 l k)
noncomputable def lo2 (F : Int → Int → Int) (v0 u0 : Int) (K : Nat) : Nat → Int
  | 0 => 255
  | j + 1 => lo1 F (v0 + j) u0 (lo2 F v0 u0 K j) K
noncomputable def hi1 (F : Int → Int → Int) (v u0 l : Int) : Nat → Int
  | 0 => l
  | k + 1 => rh_if (hi1 F v u0 l k < F (u0 + k) v) (F (u0 + k) v) (hi1 F v u0 l k)
noncomputable def hi2 (F : Int → Int → Int) (v0 u0 : Int) (K : Nat) : Nat → Int
  | 0 => 0
  | j + 1 => hi1 F (v0 + j) u0 (hi2 F v0 u0 K j) K
theorem ifb {c : Prop} {x y : Int} (hx : 0 ≤ x ∧ x ≤ 255) (hy : 0 ≤ y ∧ y ≤ 255) : 0 ≤ rh_if c x y ∧ rh_if c x y ≤ 255 := by
  by_cases z : c
  · rw [rh_if_t z]; exact hx
  · rw [rh_if_f z]; exact hy
theorem lo1_b {F : Int → Int → Int} {v u0 l : Int} (hl : 0 ≤ l ∧ l ≤ 255) : ∀ k : Nat, (∀ i : Int, 0 ≤ i → i < k → 0 ≤ F (u0 + i) v ∧ F (u0 + i) v ≤ 255) → (0 ≤ lo1 F v u0 l k ∧ lo1 F v u0 l k ≤ 255)
  | 0, _ => hl
  | k + 1, h => ifb (h k (by omega) (by omega)) (lo1_b hl k (fun i i0 i1 => h i i0 (by omega)))
theorem hi1_b {F : Int → Int → Int} {v u0 l : Int} (hl : 0 ≤ l ∧ l ≤ 255) : ∀ k : Nat, (∀ i : Int, 0 ≤ i → i < k → 0 ≤ F (u0 + i) v ∧ F (u0 + i) v ≤ 255) → (0 ≤ hi1 F v u0 l k ∧ hi1 F v u0 l k ≤ 255)
  | 0, _ => hl
  | k + 1, h => ifb (h k (by omega) (by omega)) (hi1_b hl k (fun i i0 i1 => h i i0 (by omega)))
theorem lo2_b {F : Int → Int → Int} {v0 u0 : Int} {K : Nat} : ∀ j : Nat, (∀ e i : Int, 0 ≤ e → e < j → 0 ≤ i → i < K → 0 ≤ F (u0 + i) (v0 + e) ∧ F (u0 + i) (v0 + e) ≤ 255) → (0 ≤ lo2 F v0 u0 K j ∧ lo2 F v0 u0 K j ≤ 255)
  | 0, _ => ⟨show (0 : Int) ≤ 255 by decide, show (255 : Int) ≤ 255 by decide⟩
  | j + 1, h => lo1_b (lo2_b j (fun e i e0 e1 i0 i1 => h e i e0 (by omega) i0 i1)) K (fun i i0 i1 => h j i (by omega) (by omega) i0 i1)
theorem hi2_b {F : Int → Int → Int} {v0 u0 : Int} {K : Nat} : ∀ j : Nat, (∀ e i : Int, 0 ≤ e → e < j → 0 ≤ i → i < K → 0 ≤ F (u0 + i) (v0 + e) ∧ F (u0 + i) (v0 + e) ≤ 255) → (0 ≤ hi2 F v0 u0 K j ∧ hi2 F v0 u0 K j ≤ 255)
  | 0, _ => ⟨show (0 : Int) ≤ 0 by decide, show (0 : Int) ≤ 255 by decide⟩
  | j + 1, h => hi1_b (hi2_b j (fun e i e0 e1 i0 i1 => h e i e0 (by omega) i0 i1)) K (fun i i0 i1 => h j i (by omega) (by omega) i0 i1)
theorem lo_m {l c : Int} : rh_if (l < c) l c = rh_if (c < l) c l := by
  by_cases y : l < c
  · rw [rh_if_t y, rh_if_f (by omega)]
  · rw [rh_if_f y]
    by_cases z : c < l
    · rw [rh_if_t z]
    · rw [rh_if_f z]; omega
theorem hi_m {l c : Int} : rh_if (c < l) l c = rh_if (l < c) c l := by
  by_cases y : l < c
  · rw [rh_if_t y, rh_if_f (by omega)]
  · rw [rh_if_f y]
    by_cases z : c < l
    · rw [rh_if_t z]
    · rw [rh_if_f z]; omega
theorem h_ri (hh : rh_hs wh) {A : rhM} {x1 x y b W H v u0 l0 h0 : Int} {g : Int → Int} {K : Nat} (hx : rh_bl wh 5 x1 0) (P : Pgv A x1 g W H) (hb : A 20 1 = b) (hb2 : 0 ≤ b ∧ b ≤ 7) (xx : 0 ≤ x ∧ x < W) (hv : 0 ≤ v ∧ v < H) (hu0 : 0 ≤ u0) (hK : u0 + K = lsO x b W + 1) (hK2 : K ≤ 15) : ∀ (u k : Nat), k + u = K →
    eS wh YX11_isBlack 2 36 [(0, 2, 20), (1, 2, x1), (2, 0, x), (3, 0, y), (4, 0, lo1 (Gg g W) v u0 l0 k), (5, 0, hi1 (Gg g W) v u0 h0 k), (6, 0, v), (7, 0, u0 + (k : Int))] [] A 36 [(0, 2, 20), (1, 2, x1), (2, 0, x), (3, 0, y), (4, 0, lo1 (Gg g W) v u0 l0 K), (5, 0, hi1 (Gg g W) v u0 h0 K), (6, 0, v), (7, 0, u0 + (K : Int))] [] A := by
  obtain ⟨e1, e2, W1, H1, hN, eg, gb⟩ := P
  have lb := lsO_b (c := x) (b := b) (s := W) xx hb2.1
  intro u
  induction u with
  | zero =>
    intro k hk
    rw [show k = K by omega]
    exact eS.rf
  | succ u ih =>
    intro k hk
    have ik : 0 ≤ W * v + (u0 + k) ∧ W * v + (u0 + k) < W * H ∧ W * v + (u0 + k) < 6144 := ixW ⟨by omega, by omega⟩ hv hN
    refine eS.tr (eS.of (fun Q HQ => ?_)) (ih (k + 1) (by omega))
    have h2 : lo1 (Gg g W) v u0 l0 (k + 1) = rh_if (g (W * v + (u0 + k)) < lo1 (Gg g W) v u0 l0 k) (g (W * v + (u0 + k))) (lo1 (Gg g W) v u0 l0 k) := rfl
    have h3 : hi1 (Gg g W) v u0 h0 (k + 1) = rh_if (hi1 (Gg g W) v u0 h0 k < g (W * v + (u0 + k))) (g (W * v + (u0 + k))) (hi1 (Gg g W) v u0 h0 k) := rfl
    have h4 : u0 + ((k + 1 : Nat) : Int) = u0 + (k : Int) + 1 := by omega
    rw [h2, h3, h4] at HQ
    refine rh1.of (rX11_isBlack_36 hh _ _ _ _ _ _ _ _ hx ?_)
    rw [e1]
    refine rh1.s (vX11_isBlack_44 hh (c_lastC hh hb ⟨by omega, by omega⟩ ⟨by omega, by omega⟩) (LE0 rfl)) ?_
    refine rh1.of (rX11_isBlack_47 hh _ _ _ _ _ _ _ _ _ _ hx ?_)
    rw [e1]
    refine ⟨fun _ => ⟨⟨ik.1, ik.2.2⟩, fun t ht => ⟨⟨ik.1, ik.2.2⟩, fun s hs => ⟨⟨by omega, by omega⟩, ?_⟩⟩⟩, fun z => by omega⟩
    rw [eg _ ik.1 ik.2.1] at ht hs
    rw [ht, hs]
    exact HQ
theorem h_ro (hh : rh_hs wh) {A : rhM} {x1 x y b W H : Int} {g : Int → Int} {K J : Nat} (hx : rh_bl wh 5 x1 0) (P : Pgv A x1 g W H) (hb : A 20 1 = b) (hb2 : 0 ≤ b ∧ b ≤ 7) (xx : 0 ≤ x ∧ x < W) (yy : 0 ≤ y ∧ y < H) (hK : fsO x b + K = lsO x b W + 1) (hJ : fsO y b + J = lsO y b H + 1) : ∀ (u j : Nat), j + u = J →
    eS wh YX11_isBlack 2 15 [(0, 2, 20), (1, 2, x1), (2, 0, x), (3, 0, y), (4, 0, lo2 (Gg g W) (fsO y b) (fsO x b) K j), (5, 0, hi2 (Gg g W) (fsO y b) (fsO x b) K j), (6, 0, fsO y b + (j : Int))] [] A 15 [(0, 2, 20), (1, 2, x1), (2, 0, x), (3, 0, y), (4, 0, lo2 (Gg g W) (fsO y b) (fsO x b) K J), (5, 0, hi2 (Gg g W) (fsO y b) (fsO x b) K J), (6, 0, fsO y b + (J : Int))] [] A := by
  have P' := P
  obtain ⟨e1, e2, W1, H1, hN, eg, gb⟩ := P
  have lx := lsO_b (c := x) (b := b) (s := W) xx hb2.1
  have ly := lsO_b (c := y) (b := b) (s := H) yy hb2.1
  have fx := fsO_b (c := x) (b := b) xx.1 hb2.1
  have fy := fsO_b (c := y) (b := b) yy.1 hb2.1
  have K15 : K ≤ 15 := by omega
  have J15 : J ≤ 15 := by omega
  generalize hu0 : fsO x b = u0 at *
  generalize hv0 : fsO y b = v0 at *
  intro u
  induction u with
  | zero =>
    intro j hj
    rw [show j = J by omega]
    exact eS.rf
  | succ u ih =>
    intro j hj
    have L := h_ri hh (v := v0 + j) (u0 := u0) (l0 := lo2 (Gg g W) v0 u0 K j) (h0 := hi2 (Gg g W) v0 u0 K j) (y := y) (K := K) hx P' hb hb2 xx ⟨by omega, by omega⟩ fx.1 hK K15 K 0 (by omega)
    have z4 : u0 + ((0 : Nat) : Int) = u0 := Int.add_zero _
    rw [z4] at L
    refine eS.tr (eS.of (fun Q HQ => ?_)) (ih (j + 1) (by omega))
    rw [show v0 + ((j + 1 : Nat) : Int) = v0 + (j : Int) + 1 by omega] at HQ
    refine rh1.of (rX11_isBlack_15 hh _ _ _ _ _ _ _ hx ?_)
    rw [e2]
    refine rh1.s (vX11_isBlack_23 hh (c_lastC hh hb ⟨by omega, by omega⟩ ⟨by omega, by omega⟩) (LE0 rfl)) ?_
    refine rh1.of (rX11_isBlack_26 hh _ _ _ _ _ _ _ _ _ hx ?_)
    refine ⟨fun _ => ?_, fun z => by omega⟩
    refine rh1.s (vX11_isBlack_31 hh (c_firstC hh hb ⟨by omega, by omega⟩) (LE0 rfl)) ?_
    refine rh1.of (rX11_isBlack_34 hh _ _ _ _ _ _ _ _ hx ?_)
    rw [hu0]
    refine rh1.s L ?_
    refine rh1.of (rX11_isBlack_36 hh _ _ _ _ _ _ _ _ hx ?_)
    rw [e1]
    refine rh1.s (vX11_isBlack_44 hh (c_lastC hh hb ⟨by omega, by omega⟩ ⟨by omega, by omega⟩) (LE0 rfl)) ?_
    refine rh1.of (rX11_isBlack_47 hh _ _ _ _ _ _ _ _ _ _ hx ?_)
    rw [e1]
    exact ⟨fun z => by omega, fun _ => ⟨⟨by omega, by omega⟩, HQ⟩⟩
/-- the answer -/
noncomputable def rgV (l h a c lv : Int) : Int := rh_if (a ≤ h - l) (rh_if ((2 * c) < (l + h)) (1 : Int) 0) (rh_if (c ≤ lv) (1 : Int) 0)
noncomputable def rgR (g : Int → Int) (W H x y a b lv : Int) : Int := rgV (lo2 (Gg g W) (fsO y b) (fsO x b) (lsO x b W + 1 - fsO x b).toNat (lsO y b H + 1 - fsO y b).toNat) (hi2 (Gg g W) (fsO y b) (fsO x b) (lsO x b W + 1 - fsO x b).toNat (lsO y b H + 1 - fsO y b).toNat) a (g (W * y + x)) lv
theorem rgR_b {g : Int → Int} {W H x y a b lv : Int} : 0 ≤ rgR g W H x y a b lv ∧ rgR g W H x y a b lv ≤ 1 := by
  unfold rgR rgV
  by_cases z : a ≤ hi2 (Gg g W) (fsO y b) (fsO x b) (lsO x b W + 1 - fsO x b).toNat (lsO y b H + 1 - fsO y b).toNat - lo2 (Gg g W) (fsO y b) (fsO x b) (lsO x b W + 1 - fsO x b).toNat (lsO y b H + 1 - fsO y b).toNat
  · rw [rh_if_t z]; exact if10.2.2
  · rw [rh_if_f z]; exact if10.2.2
theorem winr_b {g : Int → Int} {W H x y b : Int} {K J : Nat} (gb : ∀ k, 0 ≤ k → k < W * H → 0 ≤ g k ∧ g k ≤ 255) (hN : W * H ≤ 6144) (hb2 : 1 ≤ b ∧ b ≤ 7) (xx : 0 ≤ x ∧ x < W) (yy : 0 ≤ y ∧ y < H) (hK : fsO x b + K = lsO x b W + 1) (hJ : fsO y b + J = lsO y b H + 1) : (0 ≤ lo2 (Gg g W) (fsO y b) (fsO x b) K J ∧ lo2 (Gg g W) (fsO y b) (fsO x b) K J ≤ 255) ∧ (0 ≤ hi2 (Gg g W) (fsO y b) (fsO x b) K J ∧ hi2 (Gg g W) (fsO y b) (fsO x b) K J ≤ 255) := by
  have lx := lsO_b (c := x) (b := b) (s := W) xx (by omega)
  have ly := lsO_b (c := y) (b := b) (s := H) yy (by omega)
  have fx := fsO_b (c := x) (b := b) xx.1 (by omega)
  have fy := fsO_b (c := y) (b := b) yy.1 (by omega)
  generalize fsO x b = u0 at *
  generalize fsO y b = v0 at *
  have ig : ∀ e i : Int, 0 ≤ e → e < J → 0 ≤ i → i < K → 0 ≤ W * (v0 + e) + (u0 + i) ∧ W * (v0 + e) + (u0 + i) < W * H ∧ W * (v0 + e) + (u0 + i) < 6144 := fun e i e0 e1 i0 i1 => ixW ⟨by omega, by omega⟩ ⟨by omega, by omega⟩ hN
  exact ⟨lo2_b J (fun e i e0 e1 i0 i1 => gb _ (ig e i e0 e1 i0 i1).1 (ig e i e0 e1 i0 i1).2.1), hi2_b J (fun e i e0 e1 i0 i1 => gb _ (ig e i e0 e1 i0 i1).1 (ig e i e0 e1 i0 i1).2.1)⟩
theorem h_range (hh : rh_hs wh) {A : rhM} {x1 x y a b lv W H : Int} {g : Int → Int} (hx : rh_bl wh 5 x1 0) (P : Pgv A x1 g W H) (ha : A 20 0 = a) (hb : A 20 1 = b) (hl : A 16 3 = lv) (hb2 : 1 ≤ b ∧ b ≤ 7) (xx : 0 ≤ x ∧ x < W) (yy : 0 ≤ y ∧ y < H) : eC wh YX11_isBlack 2 [(2, 20), (2, x1), (0, x), (0, y)] A (rgR g W H x y a b lv) A := by
  have P' := P
  obtain ⟨e1, e2, W1, H1, hN, eg, gb⟩ := P
  have lx := lsO_b (c := x) (b := b) (s := W) xx (by omega)
  have ly := lsO_b (c := y) (b := b) (s := H) yy (by omega)
  have fx := fsO_b (c := x) (b := b) xx.1 (by omega)
  have fy := fsO_b (c := y) (b := b) yy.1 (by omega)
  obtain ⟨K, hKd⟩ : ∃ K, K = (lsO x b W + 1 - fsO x b).toNat := ⟨_, rfl⟩
  obtain ⟨J, hJd⟩ : ∃ J, J = (lsO y b H + 1 - fsO y b).toNat := ⟨_, rfl⟩
  have hK : fsO x b + K = lsO x b W + 1 := by omega
  have hJ : fsO y b + J = lsO y b H + 1 := by omega
  have wb := winr_b (g := g) gb hN hb2 xx yy hK hJ
  have L := h_ro hh hx P' hb ⟨by omega, by omega⟩ xx yy hK hJ J 0 (by omega)
  rw [show fsO y b + ((0 : Nat) : Int) = fsO y b from Int.add_zero _] at L
  unfold rgR
  rw [← hKd, ← hJd]
  have ik := ixW (u := x) (v := y) xx yy hN
  have gk := gb _ ik.1 ik.2.1
  refine eC.of1 (rC1.of (by decide) (LE0 rfl) ?_)
  refine rh1.of (rX11_isBlack_0 hh _ _ _ _ hx ?_)
  refine rh1.s (vX11_isBlack_10 hh (c_firstC hh hb ⟨by omega, by omega⟩) (LE0 rfl)) ?_
  refine rh1.of (rX11_isBlack_13 hh _ _ _ _ _ _ _ hx ?_)
  refine rh1.s L ?_
  refine rh1.of (rX11_isBlack_15 hh _ _ _ _ _ _ _ hx ?_)
  rw [e2]
  refine rh1.s (vX11_isBlack_23 hh (c_lastC hh hb ⟨by omega, by omega⟩ ⟨by omega, by omega⟩) (LE0 rfl)) ?_
  refine rh1.of (rX11_isBlack_26 hh _ _ _ _ _ _ _ _ _ hx ?_)
  rw [e1, ha, hl, eg _ ik.1 ik.2.1]
  unfold rgV
  refine ⟨fun z => by omega, fun _ => ⟨⟨by omega, by omega⟩, fun z => ⟨⟨ik.1, ik.2.2⟩, ⟨by omega, by omega⟩, ⟨by omega, by omega⟩, ?_, rfl⟩, fun z => ⟨⟨ik.1, ik.2.2⟩, ?_, rfl⟩⟩⟩
  · rw [rh_if_t z]
  · rw [rh_if_f z]
theorem m_ri (hm : rh_ms wm) {B : rhM} {p x y a b lv W H v u0 l0 h0 : Int} {g : Int → Int} {K : Nat} (hp : 0 ≤ p ∧ p < 8) (P : Pgm B p g W H) (hb2 : 0 ≤ b ∧ b ≤ 7) (xx : 0 ≤ x ∧ x < W) (hv : 0 ≤ v ∧ v < H) (hu0 : 0 ≤ u0) (hK : u0 + K = lsO x b W + 1) (hK2 : K ≤ 15) : ∀ (u k : Nat), k + u = K →
    eS wm YX32_byRange 1 48 [(0, 2, 0), (1, 0, p), (2, 0, x), (3, 0, y), (4, 0, a), (5, 0, b), (6, 0, lv), (7, 0, lo1 (Gg g W) v u0 l0 k), (8, 0, hi1 (Gg g W) v u0 h0 k), (9, 0, v), (10, 0, u0 + (k : Int))] [] B 48 [(0, 2, 0), (1, 0, p), (2, 0, x), (3, 0, y), (4, 0, a), (5, 0, b), (6, 0, lv), (7, 0, lo1 (Gg g W) v u0 l0 K), (8, 0, hi1 (Gg g W) v u0 h0 K), (9, 0, v), (10, 0, u0 + (K : Int))] [] B := by
  obtain ⟨e1, e2, W1, H1, hN, eg, gb⟩ := P
  have lb := lsO_b (c := x) (b := b) (s := W) xx hb2.1
  intro u
  induction u with
  | zero =>
    intro k hk
    rw [show k = K by omega]
    exact eS.rf
  | succ u ih =>
    intro k hk
    have ik : 0 ≤ W * v + (u0 + k) ∧ W * v + (u0 + k) < W * H ∧ W * v + (u0 + k) < 6144 := ixW ⟨by omega, by omega⟩ hv hN
    refine eS.tr (eS.of (fun Q HQ => ?_)) (ih (k + 1) (by omega))
    have h2 : lo1 (Gg g W) v u0 l0 (k + 1) = rh_if (g (W * v + (u0 + k)) < lo1 (Gg g W) v u0 l0 k) (g (W * v + (u0 + k))) (lo1 (Gg g W) v u0 l0 k) := rfl
    have h3 : hi1 (Gg g W) v u0 h0 (k + 1) = rh_if (hi1 (Gg g W) v u0 h0 k < g (W * v + (u0 + k))) (g (W * v + (u0 + k))) (hi1 (Gg g W) v u0 h0 k) := rfl
    have h4 : u0 + ((k + 1 : Nat) : Int) = u0 + (k : Int) + 1 := by omega
    have e6 : ((6144 * p) + (v * W)) + (u0 + (k : Int)) = 6144 * p + (W * v + (u0 + k)) := by rw [Int.mul_comm v W]; omega
    rw [h2, h3, h4] at HQ
    refine rh1.of (rX32_byRange_48 hm _ _ _ _ _ _ _ _ _ _ _ ?_)
    rw [e1, lsO_m, e6, eg _ ik.1 ik.2.1, lo_m, hi_m]
    refine ⟨hp, ⟨by omega, by omega⟩, ⟨by omega, by omega⟩, fun _ => ⟨hp, ⟨by omega, by omega⟩, fun t ht => ⟨hp, ⟨by omega, by omega⟩, fun s hs => ⟨⟨by omega, by omega⟩, ?_⟩⟩⟩, fun z => by omega⟩
    rw [ht, hs]
    exact HQ
theorem m_ro (hm : rh_ms wm) {B : rhM} {p x y a b lv W H : Int} {g : Int → Int} {K J : Nat} (hp : 0 ≤ p ∧ p < 8) (P : Pgm B p g W H) (hb2 : 0 ≤ b ∧ b ≤ 7) (xx : 0 ≤ x ∧ x < W) (yy : 0 ≤ y ∧ y < H) (hK : fsO x b + K = lsO x b W + 1) (hJ : fsO y b + J = lsO y b H + 1) : ∀ (u j : Nat), j + u = J →
    eS wm YX32_byRange 1 18 [(0, 2, 0), (1, 0, p), (2, 0, x), (3, 0, y), (4, 0, a), (5, 0, b), (6, 0, lv), (7, 0, lo2 (Gg g W) (fsO y b) (fsO x b) K j), (8, 0, hi2 (Gg g W) (fsO y b) (fsO x b) K j), (9, 0, fsO y b + (j : Int))] [] B 18 [(0, 2, 0), (1, 0, p), (2, 0, x), (3, 0, y), (4, 0, a), (5, 0, b), (6, 0, lv), (7, 0, lo2 (Gg g W) (fsO y b) (fsO x b) K J), (8, 0, hi2 (Gg g W) (fsO y b) (fsO x b) K J), (9, 0, fsO y b + (J : Int))] [] B := by
  have P' := P
  obtain ⟨e1, e2, W1, H1, hN, eg, gb⟩ := P
  have lx := lsO_b (c := x) (b := b) (s := W) xx hb2.1
  have ly := lsO_b (c := y) (b := b) (s := H) yy hb2.1
  have fx := fsO_b (c := x) (b := b) xx.1 hb2.1
  have fy := fsO_b (c := y) (b := b) yy.1 hb2.1
  have K15 : K ≤ 15 := by omega
  have J15 : J ≤ 15 := by omega
  generalize hu0 : fsO x b = u0 at *
  generalize hv0 : fsO y b = v0 at *
  intro u
  induction u with
  | zero =>
    intro j hj
    rw [show j = J by omega]
    exact eS.rf
  | succ u ih =>
    intro j hj
    have L := m_ri hm (v := v0 + j) (u0 := u0) (l0 := lo2 (Gg g W) v0 u0 K j) (h0 := hi2 (Gg g W) v0 u0 K j) (y := y) (a := a) (lv := lv) (K := K) hp P' hb2 xx ⟨by omega, by omega⟩ fx.1 hK K15 K 0 (by omega)
    have z4 : u0 + ((0 : Nat) : Int) = u0 := Int.add_zero _
    rw [z4] at L
    refine eS.tr (eS.of (fun Q HQ => ?_)) (ih (j + 1) (by omega))
    rw [show v0 + ((j + 1 : Nat) : Int) = v0 + (j : Int) + 1 by omega] at HQ
    refine rh1.of (rX32_byRange_18 hm _ _ _ _ _ _ _ _ _ _ ?_)
    rw [e2, lsO_m, fsO_m]
    refine ⟨hp, ⟨by omega, by omega⟩, ⟨by omega, by omega⟩, fun _ => ⟨⟨by omega, by omega⟩, fun t ht => ?_⟩, fun z => by omega⟩
    rw [ht, hu0]
    refine rh1.s L ?_
    refine rh1.of (rX32_byRange_48 hm _ _ _ _ _ _ _ _ _ _ _ ?_)
    rw [e1, lsO_m]
    exact ⟨hp, ⟨by omega, by omega⟩, ⟨by omega, by omega⟩, fun z => by omega, fun _ => ⟨⟨by omega, by omega⟩, HQ⟩⟩
theorem m_range (hm : rh_ms wm) {B : rhM} {p x y a b lv W H : Int} {g : Int → Int} (hp : 0 ≤ p ∧ p < 8) (P : Pgm B p g W H) (hb2 : 1 ≤ b ∧ b ≤ 7) (xx : 0 ≤ x ∧ x < W) (yy : 0 ≤ y ∧ y < H) : eC wm YX32_byRange 1 [(2, 0), (0, p), (0, x), (0, y), (0, a), (0, b), (0, lv)] B (rgR g W H x y a b lv) B := by
  have P' := P
  obtain ⟨e1, e2, W1, H1, hN, eg, gb⟩ := P
  have lx := lsO_b (c := x) (b := b) (s := W) xx (by omega)
  have ly := lsO_b (c := y) (b := b) (s := H) yy (by omega)
  have fx := fsO_b (c := x) (b := b) xx.1 (by omega)
  have fy := fsO_b (c := y) (b := b) yy.1 (by omega)
  obtain ⟨K, hKd⟩ : ∃ K, K = (lsO x b W + 1 - fsO x b).toNat := ⟨_, rfl⟩
  obtain ⟨J, hJd⟩ : ∃ J, J = (lsO y b H + 1 - fsO y b).toNat := ⟨_, rfl⟩
  have hK : fsO x b + K = lsO x b W + 1 := by omega
  have hJ : fsO y b + J = lsO y b H + 1 := by omega
  have wb := winr_b (g := g) gb hN hb2 xx yy hK hJ
  have L := m_ro hm (a := a) (lv := lv) hp P' ⟨by omega, by omega⟩ xx yy hK hJ J 0 (by omega)
  rw [show fsO y b + ((0 : Nat) : Int) = fsO y b from Int.add_zero _] at L
  unfold rgR
  rw [← hKd, ← hJd]
  have ik := ixW (u := x) (v := y) xx yy hN
  have gk := gb _ ik.1 ik.2.1
  have e6 : ((6144 * p) + (y * W)) + x = 6144 * p + (W * y + x) := by rw [Int.mul_comm y W]; omega
  refine eC.of1 (rC1.of (by decide) (LE0 rfl) ?_)
  refine rh1.of (rX32_byRange_0 hm _ _ _ _ _ _ _ ?_)
  rw [fsO_m]
  refine ⟨⟨by omega, by omega⟩, fun t ht => ?_⟩
  rw [ht]
  refine rh1.s L ?_
  refine rh1.of (rX32_byRange_18 hm _ _ _ _ _ _ _ _ _ _ ?_)
  rw [e2, e1, lsO_m, e6, eg _ ik.1 ik.2.1]
  unfold rgV
  refine ⟨hp, ⟨by omega, by omega⟩, ⟨by omega, by omega⟩, fun z => by omega, fun _ => ⟨hp, ⟨by omega, by omega⟩, fun t ht => ⟨⟨by omega, by omega⟩, fun z => ?_, fun z => ?_⟩⟩⟩
  · rw [ht, rh_if_t z]
    exact ⟨⟨by omega, by omega⟩, ⟨by omega, by omega⟩, rfl, rfl⟩
  · rw [ht, rh_if_f z]
    exact ⟨rfl, rfl⟩
end Range
