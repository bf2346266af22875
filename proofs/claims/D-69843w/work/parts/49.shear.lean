/-! ===== LAYER 2: shear, turn ===== -/
section Shear
variable {wh wm : rhW}
theorem gpage2 {Mh Mm : rhM} (R : Rpg Mh Mm) (x1 x2 : Int) : ((¬ ((0 ≤ x1 ∧ x1 ≤ 7) ∧ Mh (251 + 39 * x1) 3 ≠ 0)) ∨ (¬ (0 ≤ x2 ∧ x2 ≤ 7))) ↔ ((¬ ((0 ≤ x1 ∧ x1 ≤ 7) ∧ 0 < rh_set Mm 0 0 0 4 x1)) ∨ (¬ (0 ≤ x2 ∧ x2 ≤ 7))) := by
  rw [set0_4]
  by_cases h : 0 ≤ x1 ∧ x1 ≤ 7
  · have := (R x1 (by omega) (by omega)).2
    omega
  · omega
theorem ix_ne {W x y x' y' : Int} (h0 : 0 ≤ x) (h1 : x < W) (h2 : 0 ≤ x') (h3 : x' < W) (h : ¬ (x = x' ∧ y = y')) : W * y + x ≠ W * y' + x' := by
  intro e
  have a := dm_x (v := y) h0 h1
  have b := dm_x (v := y') h2 h3
  rw [e] at a
  exact h ⟨by omega, by omega⟩
theorem ix_b {W H x y : Int} (h0 : 0 ≤ x) (h1 : x < W) (h2 : 0 ≤ y) (h3 : y < H) : 0 ≤ W * y + x ∧ W * y + x < W * H :=
  ⟨by have := mul_nn (a := W) (b := y) (by omega) h2; omega, mul_lt h0 h1 h2 h3⟩
/-- the value of a pixel of the sheared page -/
def shv (g : Int → Int) (W H s x y : Int) : Int := if 0 ≤ y - s * x / W ∧ y - s * x / W < H then g (W * (y - s * x / W) + x) else 255
theorem shv_cg {g g' : Int → Int} {W H s x y : Int} (h0 : 0 ≤ x) (h1 : x < W) (hg : ∀ k, 0 ≤ k → k < W * H → g k = g' k) : shv g W H s x y = shv g' W H s x y := by
  unfold shv
  split
  · rename_i h
    have := ix_b h0 h1 h.1 h.2
    exact hg _ this.1 this.2
  · rfl
theorem sx_b {W s x : Int} (hs : -24 ≤ s ∧ s ≤ 24) (h0 : 0 ≤ x) (h1 : x < W) (hW : W ≤ 128) : (-3072 ≤ s * x ∧ s * x ≤ 3072) ∧ (-3072 ≤ s * x / W ∧ s * x / W ≤ 3072) := by
  have a : -3072 ≤ s * x ∧ s * x ≤ 3072 := by
    have b1 : s * x ≤ 24 * x := Int.mul_le_mul_of_nonneg_right hs.2 h0
    have b2 : -24 * x ≤ s * x := Int.mul_le_mul_of_nonneg_right hs.1 h0
    omega
  exact ⟨a, ediv_r (by omega) (by decide) a⟩
theorem c_shearH (hh : rh_hs wh) {x s W H : Int} (hx : rh_bl wh 0 x 0) (hx2 : 15 ≤ x) (M : rhM) (hW : M x 1 = W) (hH : M x 2 = H) (hW0 : 0 < W) (hWb : W ≤ 128) (hH0 : 0 ≤ H) (hHb : H ≤ 96) (hN : W * H ≤ 6144) (hs : -24 ≤ s ∧ s ≤ 24) :
    rC1 wh YX1_shear_2 2 [(2, 0), (2, x), (0, s)] M (fun r M' => r = 0 ∧ frx (fun a _ => a = 8 ∨ a = 9) M M' ∧ M' 8 1 = W ∧ M' 8 2 = H ∧ ∀ u v, 0 ≤ u → u < W → 0 ≤ v → v < H → M' 9 (W * v + u) = rh_i2b (shv (fun k => rh_and (M (x + 1) k) 255) W H s u v)) := by
  refine rC1.of (by decide) (LE0 rfl) ?_
  refine rh1.of (rX1_shear_2_0 hh _ _ _ hx ?_)
  rw [hW, hH]
  have key : ∀ (v : Nat) (i : Int) (M' : rhM), (W - i).toNat = v → (0 ≤ i) → (i ≤ W) → (frx (fun a _ => a = 8 ∨ a = 9) M M') → (M' 8 1 = W) → (M' 8 2 = H) → (∀ u v, 0 ≤ u → u < i → 0 ≤ v → v < H → M' 9 (W * v + u) = rh_i2b (shv (fun k => rh_and (M (x + 1) k) 255) W H s u v)) → rh1 wh YX1_shear_2 2 17 [(0, 2, 0), (1, 2, x), (2, 0, s), (3, 0, i)] [] M' (fun r M' => r = 0 ∧ frx (fun a _ => a = 8 ∨ a = 9) M M' ∧ M' 8 1 = W ∧ M' 8 2 = H ∧ ∀ u v, 0 ≤ u → u < W → 0 ≤ v → v < H → M' 9 (W * v + u) = rh_i2b (shv (fun k => rh_and (M (x + 1) k) 255) W H s u v)) := by
    intro v
    induction v using Nat.strongRecOn with
    | ind v ih =>
      intro i M' hv i0 i1 f h1 h2 hp
      refine rh1.of (rX1_shear_2_17 hh _ _ _ _ hx ?_)
      rw [f x 1 (by omega), hW]
      refine ⟨fun c => ?_, fun c => ⟨rfl, f, h1, h2, fun u v u0 u1 v0 v1 => hp u v u0 (by omega) v0 v1⟩⟩
      obtain ⟨sb1, sb2⟩ := sx_b hs i0 c hWb
      have E := c_fall (a := i) (b := s) hh hx.page5 M' ⟨by omega, by omega⟩ (by rw [f x 1 (by omega), hW]; exact hW0) (by rw [f x 1 (by omega), hW]; exact hWb)
      rw [f x 1 (by omega), hW] at E
      refine rh1.s (vX1_shear_2_28 E (LE0 rfl)) ?_
      refine rh1.of (rX1_shear_2_31 hh _ _ _ _ _ hx ?_)
      have key2 : ∀ (v : Nat) (j : Int) (M2 : rhM), (H - j).toNat = v → (0 ≤ j) → (j ≤ H) → (frx (fun a _ => a = 8 ∨ a = 9) M M2) → (M2 8 1 = W) → (M2 8 2 = H) → (∀ u v, 0 ≤ u → u ≤ i → 0 ≤ v → v < H → u < i ∨ v < j → M2 9 (W * v + u) = rh_i2b (shv (fun k => rh_and (M (x + 1) k) 255) W H s u v)) → rh1 wh YX1_shear_2 2 36 [(0, 2, 0), (1, 2, x), (2, 0, s), (3, 0, i), (4, 0, s * i / W), (5, 0, j)] [] M2 (fun r M' => r = 0 ∧ frx (fun a _ => a = 8 ∨ a = 9) M M' ∧ M' 8 1 = W ∧ M' 8 2 = H ∧ ∀ u v, 0 ≤ u → u < W → 0 ≤ v → v < H → M' 9 (W * v + u) = rh_i2b (shv (fun k => rh_and (M (x + 1) k) 255) W H s u v)) := by
        intro v
        induction v using Nat.strongRecOn with
        | ind v ih2 =>
          intro j M2 hv j0 j1 f2 g1 g2 hp2
          refine rh1.of (rX1_shear_2_36 hh _ _ _ _ _ _ hx ?_)
          rw [f2 x 1 (by omega), hW, f2 x 2 (by omega), hH, g1, f2.cell (a := x + 1) (fun j => (by omega))]
          refine ⟨fun d => ?_, fun d => ⟨⟨by omega, by omega⟩, ih _ (by omega) (i + 1) M2 rfl (by omega) (by omega) f2 g1 g2 (fun u v u0 u1 v0 v1 => hp2 u v u0 (by omega) v0 v1 (by omega))⟩⟩
          have ib := ix_b i0 c j0 d
          refine ⟨⟨by omega, by omega⟩, fun _ => ⟨by omega, by omega⟩, fun z => ?_, ⟨by omega, by omega⟩, ⟨by omega, by omega⟩, ih2 _ (by omega) (j + 1) _ rfl (by omega) (by omega) (f2.st (.inr rfl)) (by rw [rh_set_a (by decide), g1]) (by rw [rh_set_a (by decide), g2]) (fun u v u0 u1 v0 v1 z => ?_)⟩
          · have := ix_b i0 c z.2.2.1 z.2.2.2
            exact ⟨by omega, by omega⟩
          · by_cases q : u = i ∧ v = j
            · rw [q.1, q.2, show (8 + 1 : Int) = 9 from rfl, rh_set_s]
              congr 1
              unfold shv
              rw [rh_ifd]
              by_cases y : 0 ≤ j - s * i / W ∧ j - s * i / W < H
              · rw [if_pos y, if_pos ⟨i0, c, y⟩]
              · rw [if_neg y, if_neg (fun w => y w.2.2)]
            · rw [rh_set_j (ix_ne u0 (by omega) i0 c q)]
              exact hp2 u v u0 u1 v0 v1 (by omega)
      exact key2 _ 0 M' rfl (by omega) hH0 f h1 h2 (fun u v u0 u1 v0 v1 z => hp u v u0 (by omega) v0 v1)
  exact key _ 0 _ rfl (by omega) (by omega) ((frx.rf.st (.inl rfl)).st (.inl rfl)) (by simp [rh_sets]) (by simp [rh_sets]) (fun u v u0 u1 => by omega)
theorem c_shearM (hm : rh_ms wm) {p s W H : Int} (hp : 0 ≤ p ∧ p < 8) (M : rhM) (hW : M 4 p = W) (hH : M 5 p = H) (hW0 : 0 < W) (hWb : W ≤ 128) (hH0 : 0 ≤ H) (hHb : H ≤ 96) (hN : W * H ≤ 6144) (hs : -24 ≤ s ∧ s ≤ 24) :
    rC1 wm YX32_shearInto 1 [(2, 0), (0, p), (0, s)] M (fun r M' => r = 0 ∧ frx (fun a _ => a = 6) M M' ∧ ∀ u v, 0 ≤ u → u < W → 0 ≤ v → v < H → M' 6 (W * v + u) = shv (fun k => M 3 (6144 * p + k)) W H s u v) := by
  refine rC1.of (by decide) (LE0 rfl) ?_
  refine rh1.of (rX32_shearInto_0 hm _ _ _ ?_)
  rw [hW, hH]
  refine ⟨hp, hp, ?_⟩
  have key : ∀ (v : Nat) (i : Int) (M' : rhM), (W - i).toNat = v → (0 ≤ i) → (i ≤ W) → (frx (fun a _ => a = 6) M M') → (∀ u v, 0 ≤ u → u < i → 0 ≤ v → v < H → M' 6 (W * v + u) = shv (fun k => M 3 (6144 * p + k)) W H s u v) → rh1 wm YX32_shearInto 1 18 [(0, 2, 0), (1, 0, p), (2, 0, s), (3, 0, W), (4, 0, H), (5, 0, i)] [] M' (fun r M' => r = 0 ∧ frx (fun a _ => a = 6) M M' ∧ ∀ u v, 0 ≤ u → u < W → 0 ≤ v → v < H → M' 6 (W * v + u) = shv (fun k => M 3 (6144 * p + k)) W H s u v) := by
    intro v
    induction v using Nat.strongRecOn with
    | ind v ih =>
      intro i M' hv i0 i1 f hq
      refine rh1.of (rX32_shearInto_18 hm _ _ _ _ _ _ ?_)
      refine ⟨fun c => ?_, fun c => ⟨rfl, f, fun u v u0 u1 v0 v1 => hq u v u0 (by omega) v0 v1⟩⟩
      obtain ⟨sb1, sb2⟩ := sx_b hs i0 c hWb
      refine rh1.s (eS.fxl 1 (x := s * i) rfl ⟨by omega, by omega⟩ rfl) ?_
      refine rh1.s (vX32_shearInto_32 (c_floor M' ⟨by omega, by omega⟩ ⟨by omega, by omega⟩ hW0) (LE0 rfl)) ?_
      refine rh1.of (rX32_shearInto_35 hm _ _ _ _ _ _ _ ?_)
      refine ⟨⟨by omega, by omega⟩, ?_⟩
      have key2 : ∀ (v : Nat) (j : Int) (M2 : rhM), (H - j).toNat = v → (0 ≤ j) → (j ≤ H) → (frx (fun a _ => a = 6) M M2) → (∀ u v, 0 ≤ u → u ≤ i → 0 ≤ v → v < H → u < i ∨ v < j → M2 6 (W * v + u) = shv (fun k => M 3 (6144 * p + k)) W H s u v) → rh1 wm YX32_shearInto 1 41 [(0, 2, 0), (1, 0, p), (2, 0, s), (3, 0, W), (4, 0, H), (5, 0, i), (6, 0, s * i / W), (7, 0, j)] [] M2 (fun r M' => r = 0 ∧ frx (fun a _ => a = 6) M M' ∧ ∀ u v, 0 ≤ u → u < W → 0 ≤ v → v < H → M' 6 (W * v + u) = shv (fun k => M 3 (6144 * p + k)) W H s u v) := by
        intro v
        induction v using Nat.strongRecOn with
        | ind v ih2 =>
          intro j M2 hv j0 j1 f2 hp2
          refine rh1.of (rX32_shearInto_41 hm _ _ _ _ _ _ _ _ ?_)
          rw [f2 4 p (by omega), hW, f2 5 p (by omega), hH, f2.cell (a := 3) (fun j => (by omega))]
          refine ⟨fun d => ?_, fun d => ⟨⟨by omega, by omega⟩, ih _ (by omega) (i + 1) M2 rfl (by omega) (by omega) f2 (fun u v u0 u1 v0 v1 => hp2 u v u0 (by omega) v0 v1 (by omega))⟩⟩
          have ib := ix_b i0 c j0 d
          refine ⟨⟨by omega, by omega⟩, fun _ _ => hp, fun _ _ _ => hp, fun _ => ⟨by omega, by omega⟩, fun _ => hp, fun z => ?_, fun t et => ⟨?_, ⟨by omega, by omega⟩, ih2 _ (by omega) (j + 1) _ rfl (by omega) (by omega) (f2.st rfl) (fun u v u0 u1 v0 v1 z => ?_)⟩⟩
          · have := ix_b i0 c z.2.1 z.2.2.2
            rw [Int.mul_comm W] at this
            exact ⟨by omega, by omega⟩
          · rw [Int.mul_comm j]; exact ⟨by omega, by omega⟩
          · rw [Int.mul_comm j]
            by_cases q : u = i ∧ v = j
            · rw [q.1, q.2, rh_set_s, et]
              unfold shv
              rw [rh_ifd]
              by_cases y : 0 ≤ j - s * i / W ∧ j - s * i / W < H
              · rw [if_pos y, if_pos ⟨i0, y.1, c, y.2⟩, Int.mul_comm W]
                congr 1
                omega
              · rw [if_neg y, if_neg (fun w => y ⟨w.2.1, w.2.2.2⟩)]
            · rw [rh_set_j (ix_ne u0 (by omega) i0 c q)]
              exact hp2 u v u0 u1 v0 v1 (by omega)
      exact key2 _ 0 M' rfl (by omega) hH0 f (fun u v u0 u1 v0 v1 z => hq u v u0 (by omega) v0 v1)
  exact key _ 0 _ rfl (by omega) (by omega) frx.rf (fun u v u0 u1 => by omega)
/-- blacks of a row, steepness -/
def rwc (g : Int → Int) (W y : Int) : Nat → Int
  | 0 => 0
  | t + 1 => rwc g W y t + if g (W * y + t) < 128 then 1 else 0
def stp (g : Int → Int) (W : Int) : Nat → Int
  | 0 => 0
  | y + 1 => stp g W y + if y = 0 then 0 else (rwc g W y W.toNat - rwc g W ((y : Int) - 1) W.toNat) * (rwc g W y W.toNat - rwc g W ((y : Int) - 1) W.toNat)
theorem rwc_b (g : Int → Int) (W y : Int) : ∀ t : Nat, 0 ≤ rwc g W y t ∧ rwc g W y t ≤ t
  | 0 => by simp [rwc]
  | t + 1 => by
    have := rwc_b g W y t
    simp only [rwc]
    split <;> omega
theorem sq_b {a : Int} (h : -128 ≤ a ∧ a ≤ 128) : 0 ≤ a * a ∧ a * a ≤ 16384 := by
  by_cases q : 0 ≤ a
  · exact ⟨Int.mul_nonneg q q, by have : a * a ≤ 128 * 128 := Int.mul_le_mul h.2 h.2 q (by decide); omega⟩
  · have e : a * a = (-a) * (-a) := by rw [Int.neg_mul_neg]
    rw [e]
    exact ⟨Int.mul_nonneg (by omega) (by omega), by have : (-a) * (-a) ≤ 128 * 128 := Int.mul_le_mul (by omega) (by omega) (by omega) (by decide); omega⟩
theorem stp_b (g : Int → Int) {W : Int} (hW : W ≤ 128) (hW0 : 0 ≤ W) : ∀ y : Nat, 0 ≤ stp g W y ∧ stp g W y ≤ 16384 * y
  | 0 => by simp [stp]
  | y + 1 => by
    have := stp_b g hW hW0 y
    have b1 := rwc_b g W y W.toNat
    have b2 := rwc_b g W ((y : Int) - 1) W.toNat
    have b3 := sq_b (a := rwc g W y W.toNat - rwc g W ((y : Int) - 1) W.toNat) ⟨by omega, by omega⟩
    simp only [stp]
    split <;> omega
theorem rwc_cg {g g' : Int → Int} {W y : Int} : ∀ t : Nat, (∀ u : Int, 0 ≤ u → u < t → g (W * y + u) = g' (W * y + u)) → rwc g W y t = rwc g' W y t
  | 0, _ => rfl
  | t + 1, h => by
    simp only [rwc]
    rw [rwc_cg t (fun u a b => h u a (by omega)), h t (by omega) (by omega)]
theorem stp_cg {g g' : Int → Int} {W : Int} (hW0 : 0 ≤ W) : ∀ t : Nat, (∀ u v : Int, 0 ≤ u → u < W → 0 ≤ v → v < t → g (W * v + u) = g' (W * v + u)) → stp g W t = stp g' W t
  | 0, _ => rfl
  | t + 1, h => by
    simp only [stp]
    rw [stp_cg hW0 t (fun u v a b c d => h u v a b c (by omega)), rwc_cg W.toNat (fun u a b => h u t a (by omega) (by omega) (by omega))]
    split
    · rfl
    · rw [rwc_cg (y := (t : Int) - 1) W.toNat (fun u a b => h u _ a (by omega) (by omega) (by omega))]
theorem c_rough (hh : rh_hs wh) {x W H : Int} (hx : rh_bl wh 5 x 0) (M : rhM) (hW : M x 1 = W) (hH : M x 2 = H) (hW0 : 0 ≤ W) (hWb : W ≤ 128) (hH0 : 0 ≤ H) (hHb : H ≤ 96) (hN : W * H ≤ 6144) :
    eC wh YX1_roughness 1 [(2, 0), (2, x)] M (stp (fun k => rh_and (M (x + 1) k) 255) W H.toNat) M := by
  refine eC.of1 (rC1.of (by decide) (LE0 rfl) ?_)
  refine rh1.of (rX1_roughness_0 hh _ _ hx ?_)
  have key : ∀ (v : Nat) (y : Nat) (pv : Int), (H - y).toNat = v → ((y : Int) ≤ H) → ((y ≠ 0 → pv = rwc (fun k => rh_and (M (x + 1) k) 255) W ((y : Int) - 1) W.toNat)) → rh1 wh YX1_roughness 1 8 [(1, 2, x), (2, 1, stp (fun k => rh_and (M (x + 1) k) 255) W y), (4, 0, pv), (5, 0, (y : Int))] [] M (fun r M' => r = stp (fun k => rh_and (M (x + 1) k) 255) W H.toNat ∧ M' = M) := by
    intro v
    induction v using Nat.strongRecOn with
    | ind v ih =>
      intro y pv hv y1 hpv
      refine rh1.of (rX1_roughness_8 hh _ _ _ _ _ hx ?_)
      rw [hH]
      refine ⟨fun c => ?_, fun c => ⟨by rw [show H.toNat = y by omega], rfl⟩⟩
      have key2 : ∀ (v : Nat) (t : Nat), (W - t).toNat = v → ((t : Int) ≤ W) → rh1 wh YX1_roughness 1 23 [(1, 2, x), (2, 1, stp (fun k => rh_and (M (x + 1) k) 255) W y), (4, 0, pv), (5, 0, (y : Int)), (6, 0, rwc (fun k => rh_and (M (x + 1) k) 255) W y t), (7, 0, (t : Int))] [] M (fun r M' => r = stp (fun k => rh_and (M (x + 1) k) 255) W H.toNat ∧ M' = M) := by
        intro v
        induction v using Nat.strongRecOn with
        | ind v ih2 =>
          intro t hv t1
          refine rh1.of (rX1_roughness_23 hh _ _ _ _ _ _ _ hx ?_)
          rw [hW]
          have tb := rwc_b (fun k => rh_and (M (x + 1) k) 255) W y t
          refine ⟨fun d => ?_, fun d => ?_⟩
          · have ib := ix_b (H := H) (show (0 : Int) ≤ t by omega) d (show (0 : Int) ≤ y by omega) c
            refine ⟨⟨by omega, by omega⟩, ⟨by omega, by omega⟩, fun s es => ?_⟩
            have es2 : s = rwc (fun k => rh_and (M (x + 1) k) 255) W y (t + 1) := by rw [es, rh_ifd]; rfl
            have tb2 := rwc_b (fun k => rh_and (M (x + 1) k) 255) W y (t + 1)
            refine ⟨⟨by omega, by omega⟩, ⟨by omega, by omega⟩, ?_⟩
            have := ih2 _ (by omega) (t + 1) rfl (by omega)
            rw [← es2] at this
            exact this
          · have ht : W.toNat = t := (by omega)
            have hpv2 : y ≠ 0 → 0 ≤ pv ∧ pv ≤ 128 := fun z => by
              rw [hpv z]
              have := rwc_b (fun k => rh_and (M (x + 1) k) 255) W ((y : Int) - 1) W.toNat
              exact ⟨by omega, by omega⟩
            refine ⟨fun z => ?_, fun z => ?_, fun s es => ?_⟩
            · have := hpv2 (by omega)
              exact ⟨by omega, by omega⟩
            · have := hpv2 (by omega)
              exact ⟨by omega, by omega⟩
            · have es2 : s = stp (fun k => rh_and (M (x + 1) k) 255) W (y + 1) := by
                rw [es, rh_ifd]
                simp only [stp]
                by_cases q : y = 0
                · rw [if_pos (show (y : Int) = 0 by omega), if_pos q]
                · rw [if_neg (show ¬ (y : Int) = 0 by omega), if_neg q, ← hpv q, ht]
              have sb := stp_b (fun k => rh_and (M (x + 1) k) 255) hWb hW0 (y + 1)
              refine ⟨⟨by omega, by omega⟩, ⟨by omega, by omega⟩, ?_⟩
              have := ih _ (by omega) (y + 1) (rwc (fun k => rh_and (M (x + 1) k) 255) W y t) rfl (by omega) (fun _ => by rw [ht]; congr 1; omega)
              rw [← es2] at this
              exact this
      exact key2 _ 0 rfl (by omega)
  exact key _ 0 0 rfl (by omega) (fun z => absurd rfl z)
theorem c_steep (hm : rh_ms wm) {p s W H : Int} (hp : 0 ≤ p ∧ p < 8) (M : rhM) (hW : M 4 p = W) (hH : M 5 p = H) (hW0 : 0 < W) (hWb : W ≤ 128) (hH0 : 0 ≤ H) (hHb : H ≤ 96) (hN : W * H ≤ 6144) (hs : -24 ≤ s ∧ s ≤ 24) :
    rC1 wm YX32_steepness 2 [(2, 0), (0, p), (0, s)] M (fun r M' => r = stp (M' 6) W H.toNat ∧ frx (fun a _ => a = 6) M M' ∧ ∀ u v, 0 ≤ u → u < W → 0 ≤ v → v < H → M' 6 (W * v + u) = shv (fun k => M 3 (6144 * p + k)) W H s u v) := by
  refine rC1.of (by decide) (LE0 rfl) ?_
  refine rh1.of (rX32_steepness_0 hm _ _ _ ?_)
  obtain ⟨r, M1, E1, -, f1, h1⟩ := c_shearM hm hp M hW hH hW0 hWb hH0 hHb hN hs
  refine rh1.s (vX32_steepness_3 hm E1 (LE0 rfl)) ?_
  refine rh1.of (rX32_steepness_6 hm _ _ ?_)
  have key : ∀ (v : Nat) (y : Nat) (pv : Int), (H - y).toNat = v → ((y : Int) ≤ H) → ((y ≠ 0 → pv = rwc (M1 6) W ((y : Int) - 1) W.toNat)) → rh1 wm YX32_steepness 2 14 [(0, 2, 0), (1, 0, p), (3, 1, stp (M1 6) W y), (5, 0, pv), (6, 0, (y : Int))] [] M1 (fun r M' => r = stp (M' 6) W H.toNat ∧ frx (fun a _ => a = 6) M M' ∧ ∀ u v, 0 ≤ u → u < W → 0 ≤ v → v < H → M' 6 (W * v + u) = shv (fun k => M 3 (6144 * p + k)) W H s u v) := by
    intro v
    induction v using Nat.strongRecOn with
    | ind v ih =>
      intro y pv hv y1 hpv
      refine rh1.of (rX32_steepness_14 hm _ _ _ _ _ ?_)
      rw [f1 5 p (by omega), hH]
      refine ⟨hp, fun c => ?_, fun c => ⟨by rw [show H.toNat = y by omega], f1, h1⟩⟩
      have key2 : ∀ (v : Nat) (t : Nat), (W - t).toNat = v → ((t : Int) ≤ W) → rh1 wm YX32_steepness 2 31 [(0, 2, 0), (1, 0, p), (3, 1, stp (M1 6) W y), (5, 0, pv), (6, 0, (y : Int)), (7, 0, rwc (M1 6) W y t), (8, 0, (t : Int))] [] M1 (fun r M' => r = stp (M' 6) W H.toNat ∧ frx (fun a _ => a = 6) M M' ∧ ∀ u v, 0 ≤ u → u < W → 0 ≤ v → v < H → M' 6 (W * v + u) = shv (fun k => M 3 (6144 * p + k)) W H s u v) := by
        intro v
        induction v using Nat.strongRecOn with
        | ind v ih2 =>
          intro t hv t1
          refine rh1.of (rX32_steepness_31 hm _ _ _ _ _ _ _ ?_)
          rw [f1 4 p (by omega), hW]
          have tb := rwc_b (M1 6) W y t
          refine ⟨hp, fun d => ?_, fun d => ?_⟩
          · have ib := ix_b (H := H) (show (0 : Int) ≤ t by omega) d (show (0 : Int) ≤ y by omega) c
            rw [Int.mul_comm (y : Int)]
            refine ⟨hp, ⟨by omega, by omega⟩, fun s es => ?_⟩
            have es2 : s = rwc (M1 6) W y (t + 1) := by rw [es, rh_ifd]; rfl
            have tb2 := rwc_b (M1 6) W y (t + 1)
            refine ⟨⟨by omega, by omega⟩, ⟨by omega, by omega⟩, ?_⟩
            have := ih2 _ (by omega) (t + 1) rfl (by omega)
            rw [← es2] at this
            exact this
          · have ht : W.toNat = t := (by omega)
            have hpv2 : y ≠ 0 → 0 ≤ pv ∧ pv ≤ 128 := fun z => by
              rw [hpv z]
              have := rwc_b (M1 6) W ((y : Int) - 1) W.toNat
              exact ⟨by omega, by omega⟩
            refine ⟨fun z => ?_, fun z => ?_, fun s es => ?_⟩
            · have := hpv2 (by omega)
              exact ⟨by omega, by omega⟩
            · have := hpv2 (by omega)
              exact ⟨by omega, by omega⟩
            · have es2 : s = stp (M1 6) W (y + 1) := by
                rw [es, rh_ifd]
                simp only [stp]
                by_cases q : y = 0
                · rw [if_neg (show ¬ (0 < (y : Int)) by omega), if_pos q]
                · rw [if_pos (show (0 < (y : Int)) by omega), if_neg q, ← hpv q, ht]
              have sb := stp_b (M1 6) hWb (show 0 ≤ W by omega) (y + 1)
              refine ⟨⟨by omega, by omega⟩, ⟨by omega, by omega⟩, ?_⟩
              have := ih _ (by omega) (y + 1) (rwc (M1 6) W y t) rfl (by omega) (fun _ => by rw [ht]; congr 1; omega)
              rw [← es2] at this
              exact this
      exact key2 _ 0 rfl (by omega)
  exact key _ 0 0 rfl (by omega) (fun z => absurd rfl z)
end Shear
