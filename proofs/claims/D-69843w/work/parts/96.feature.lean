/-! ===== LAYER 2: features of a part (describe, findFeatures; feature) ===== -/
section Feature
variable {wh wm : rhW}
theorem ov_sum {n a b : Int} (hn : 0 ≤ n) (hab : a ≤ b) : ∀ k : Nat, rsum (fun y => ovl (n * y) (n * (y + 1)) a b) k ≤ max 0 (min (n * k) b - a)
  | 0 => by simp only [rsum]; omega
  | k + 1 => by
    have h := ov_sum hn hab k
    simp only [rsum]
    have e1 : n * ((k + 1 : Nat) : Int) = n * k + n := by rw [show ((k + 1 : Nat) : Int) = (k : Int) + 1 by omega, Int.mul_add, Int.mul_one]
    have e2 : n * ((k : Int) + 1) = n * k + n := by rw [Int.mul_add, Int.mul_one]
    rw [e1, e2]
    generalize rsum (fun y => ovl (n * y) (n * (y + 1)) a b) k = S at h ⊢
    unfold ovl
    omega
theorem rsum_mul {f : Int → Int} {m : Int} : ∀ k : Nat, rsum (fun u => m * f u) k = m * rsum f k
  | 0 => by simp [rsum]
  | k + 1 => by
    simp only [rsum]
    rw [rsum_mul k, Int.mul_add]
theorem rsum_le {f g : Int → Int} : ∀ k : Nat, (∀ j : Int, 0 ≤ j → j < k → f j ≤ g j) → rsum f k ≤ rsum g k
  | 0 => fun _ => Int.le_refl _
  | k + 1 => fun h => by
    have := rsum_le k (fun j a b => h j a (by omega))
    have := h k (by omega) (by omega)
    simp only [rsum]
    omega
theorem ars_le {ink : Int → Int} {W l t w h C Rn r c : Int} (hC : 0 ≤ C) (hR : 0 ≤ Rn) (hw : 0 ≤ w) (hh : 0 ≤ h) : ars ink W l t w h C Rn r c ≤ w * h := by
  have ew : (c + 1) * w = c * w + w := by rw [Int.add_mul, Int.one_mul]
  have eh : (r + 1) * h = r * h + h := by rw [Int.add_mul, Int.one_mul]
  have s1 := ov_sum (n := C) (a := c * w) (b := (c + 1) * w) hC (by omega) w.toNat
  have s2 := ov_sum (n := Rn) (a := r * h) (b := (r + 1) * h) hR (by omega) h.toNat
  have s1' : rsum (fun u => ovl (C * u) (C * (u + 1)) (c * w) ((c + 1) * w)) w.toNat ≤ w := by omega
  have s2' : rsum (fun v => ovl (Rn * v) (Rn * (v + 1)) (r * h) ((r + 1) * h)) h.toNat ≤ h := by omega
  have p1 : ∀ v : Int, 0 ≤ v → rsum (fun u => pxs ink W l t w h C Rn r c v u) w.toNat ≤ w * ovl (Rn * v) (Rn * (v + 1)) (r * h) ((r + 1) * h) := fun v v0 => by
    have o1 : 0 ≤ ovl (Rn * v) (Rn * (v + 1)) (r * h) ((r + 1) * h) := by unfold ovl; omega
    have := rsum_le (f := fun u => pxs ink W l t w h C Rn r c v u) (g := fun u => ovl (Rn * v) (Rn * (v + 1)) (r * h) ((r + 1) * h) * ovl (C * u) (C * (u + 1)) (c * w) ((c + 1) * w)) w.toNat (fun u _ _ => by
      show pxs ink W l t w h C Rn r c v u ≤ _
      unfold pxs
      split
      · exact Int.le_refl _
      · exact Int.mul_nonneg o1 (by unfold ovl; omega))
    rw [rsum_mul] at this
    refine Int.le_trans this ?_
    rw [Int.mul_comm w]
    exact Int.mul_le_mul_of_nonneg_left s1' o1
  unfold ars
  refine Int.le_trans (rsum_le (g := fun v => w * ovl (Rn * v) (Rn * (v + 1)) (r * h) ((r + 1) * h)) _ (fun v v0 _ => p1 v v0)) ?_
  rw [rsum_mul]
  exact Int.mul_le_mul_of_nonneg_left s2' hw
/-- what the features are -/
noncomputable def fea (ink : Int → Int) (W l t r b lh lb k : Int) : Int := if k < 16 then 64 * ars ink W l t (r - l) (b - t) 4 4 (k / 4) (k % 4) / ((r - l) * (b - t)) else if k = 16 then 64 * (r - l) / (r - l + (b - t)) else if k = 17 then 64 * (b - t) / lh else 64 * (lb - b) / lh
theorem fea_b {ink : Int → Int} {W l t r b lh lb k : Int} (hl : l < r) (ht : t < b) (hb : b - t ≤ 96) (hlh : 1 ≤ lh) (hlb : b ≤ lb) (hlb2 : lb - b ≤ 96) : 0 ≤ fea ink W l t r b lh lb k ∧ fea ink W l t r b lh lb k ≤ 6144 := by
  unfold fea
  by_cases q : k < 16
  · rw [if_pos q]
    have hp : 0 < (r - l) * (b - t) := Int.mul_pos (by omega) (by omega)
    have a1 : 0 ≤ ars ink W l t (r - l) (b - t) 4 4 (k / 4) (k % 4) := by
      unfold ars
      have h1 : ∀ v : Int, 0 ≤ rsum (fun u => pxs ink W l t (r - l) (b - t) 4 4 (k / 4) (k % 4) v u) (r - l).toNat := fun v => (rsum_b (m := 72) _ (fun j _ _ => pxs_b (by decide) (by decide))).1
      have : ∀ n : Nat, 0 ≤ rsum (fun v => rsum (fun u => pxs ink W l t (r - l) (b - t) 4 4 (k / 4) (k % 4) v u) (r - l).toNat) n := by
        intro n
        induction n with
        | zero => exact Int.le_refl _
        | succ n ih => simp only [rsum]; have := h1 n; omega
      exact this _
    have a2 := ars_le (ink := ink) (W := W) (l := l) (t := t) (w := r - l) (h := b - t) (C := 4) (Rn := 4) (r := k / 4) (c := k % 4) (by decide) (by decide) (by omega) (by omega)
    refine ⟨Int.ediv_nonneg (by omega) (by omega), ?_⟩
    have : 64 * ars ink W l t (r - l) (b - t) 4 4 (k / 4) (k % 4) / ((r - l) * (b - t)) ≤ 64 * ((r - l) * (b - t)) / ((r - l) * (b - t)) := Int.ediv_le_ediv hp (by omega)
    rw [Int.mul_ediv_cancel _ (by omega)] at this
    omega
  · rw [if_neg q]
    by_cases q1 : k = 16
    · rw [if_pos q1]
      refine ⟨Int.ediv_nonneg (by omega) (by omega), ?_⟩
      have : 64 * (r - l) / (r - l + (b - t)) ≤ 64 * (r - l + (b - t)) / (r - l + (b - t)) := Int.ediv_le_ediv (by omega) (by omega)
      rw [Int.mul_ediv_cancel _ (by omega)] at this
      omega
    · rw [if_neg q1]
      by_cases q2 : k = 17
      · rw [if_pos q2]
        refine ⟨Int.ediv_nonneg (by omega) (by omega), ?_⟩
        have := Int.ediv_le_self (b := lh) (show 0 ≤ 64 * (b - t) by omega)
        omega
      · rw [if_neg q2]
        refine ⟨Int.ediv_nonneg (by omega) (by omega), ?_⟩
        have := Int.ediv_le_self (b := lh) (show 0 ≤ 64 * (lb - b) by omega)
        omega
theorem fea_b2 {ink : Int → Int} {W l t r b lh lb k : Int} (hl : l < r) (ht : t < b) (hlh : 1 ≤ lh) (hlb : b ≤ lb) (hlt : lb - lh ≤ t) : 0 ≤ fea ink W l t r b lh lb k ∧ fea ink W l t r b lh lb k ≤ 255 := by
  unfold fea
  by_cases q : k < 16
  · rw [if_pos q]
    have hp : 0 < (r - l) * (b - t) := Int.mul_pos (by omega) (by omega)
    have a1 : 0 ≤ ars ink W l t (r - l) (b - t) 4 4 (k / 4) (k % 4) := by
      unfold ars
      have h1 : ∀ v : Int, 0 ≤ rsum (fun u => pxs ink W l t (r - l) (b - t) 4 4 (k / 4) (k % 4) v u) (r - l).toNat := fun v => (rsum_b (m := 72) _ (fun j _ _ => pxs_b (by decide) (by decide))).1
      have : ∀ n : Nat, 0 ≤ rsum (fun v => rsum (fun u => pxs ink W l t (r - l) (b - t) 4 4 (k / 4) (k % 4) v u) (r - l).toNat) n := by
        intro n
        induction n with
        | zero => exact Int.le_refl _
        | succ n ih => simp only [rsum]; have := h1 n; omega
      exact this _
    have a2 := ars_le (ink := ink) (W := W) (l := l) (t := t) (w := r - l) (h := b - t) (C := 4) (Rn := 4) (r := k / 4) (c := k % 4) (by decide) (by decide) (by omega) (by omega)
    refine ⟨Int.ediv_nonneg (by omega) (by omega), ?_⟩
    have : 64 * ars ink W l t (r - l) (b - t) 4 4 (k / 4) (k % 4) / ((r - l) * (b - t)) ≤ 64 * ((r - l) * (b - t)) / ((r - l) * (b - t)) := Int.ediv_le_ediv hp (by omega)
    rw [Int.mul_ediv_cancel _ (by omega)] at this
    omega
  · rw [if_neg q]
    by_cases q1 : k = 16
    · rw [if_pos q1]
      refine ⟨Int.ediv_nonneg (by omega) (by omega), ?_⟩
      have : 64 * (r - l) / (r - l + (b - t)) ≤ 64 * (r - l + (b - t)) / (r - l + (b - t)) := Int.ediv_le_ediv (by omega) (by omega)
      rw [Int.mul_ediv_cancel _ (by omega)] at this
      omega
    · rw [if_neg q1]
      by_cases q2 : k = 17
      · rw [if_pos q2]
        refine ⟨Int.ediv_nonneg (by omega) (by omega), ?_⟩
        have : 64 * (b - t) / lh ≤ 64 * lh / lh := Int.ediv_le_ediv (by omega) (by omega)
        rw [Int.mul_ediv_cancel _ (by omega)] at this
        omega
      · rw [if_neg q2]
        refine ⟨Int.ediv_nonneg (by omega) (by omega), ?_⟩
        have : 64 * (lb - b) / lh ≤ 64 * lh / lh := Int.ediv_le_ediv (by omega) (by omega)
        rw [Int.mul_ediv_cancel _ (by omega)] at this
        omega
theorem c_describe (hh : rh_hs wh) {x w0 W H l t r b lh lb : Int} {ink : Int → Int} (hx : rh_bl wh 0 x 0) (hx2 : 100 ≤ x) (M : rhM) (hc : CtH M x w0 W H ink) (hW : 0 ≤ W) (hWb : W ≤ 128) (hHb : H ≤ 96) (hN : W * H ≤ 6144) (h11 : M 25 11 = l) (h12 : M 25 12 = t) (h13 : M 25 13 = r) (h14 : M 25 14 = b) (hl : 0 ≤ l ∧ l < r ∧ r ≤ W) (ht : 0 ≤ t ∧ t < b ∧ b ≤ H) (h2 : M 25 2 = lh) (h3 : M 25 3 = lb) (hlh : 1 ≤ lh ∧ lh ≤ 96) (hlb : b ≤ lb ∧ lb ≤ 96) :
    rC1 wh YX16_describe 4 [(2, 25)] M (fun _ M' => frx (fun c j => c = 31 ∨ c = 32) M M' ∧ ∀ k, 0 ≤ k → k < 19 → M' 31 k = fea ink W l t r b lh lb k) := by
  refine rC1.of (by decide) (LE0 rfl) ?_
  refine rh1.of (rX16_describe_0 hh _ ?_)
  rw [h11, h12, h13, h14]
  rintro _ rfl
  refine ⟨⟨by omega, by omega⟩, ?_⟩
  rintro _ rfl
  refine ⟨⟨by omega, by omega⟩, ?_⟩
  obtain ⟨r1, M1, E1, f1, a1⟩ := c_measure hh (C := 4) (Rn := 4) hx hx2 M hc hW hWb hHb hN (by decide) (by decide) h11 h12 h13 h14 hl ht
  refine rh1.s (vX16_describe_23 hh E1 (LE0 rfl)) ?_
  refine rh1.of (rX16_describe_26 hh _ _ _ ?_)
  replace a1 := Hid.mk a1
  have hp : 0 < (r - l) * (b - t) := Int.mul_pos (by omega) (by omega)
  have hp2 := mulb (show 0 ≤ r - l by omega) (show r - l ≤ 128 by omega) (show 0 ≤ b - t by omega) (show b - t ≤ 96 by omega)
  have key : ∀ (vq : Nat) (k : Int) (M2 : rhM), (16 - k).toNat = vq → (0 ≤ k) → (k ≤ 16) → (frx (fun c j => c = 31) M1 M2) → ((∀ i, 0 ≤ i → i < k → M2 31 i = fea ink W l t r b lh lb i)) → rh1 wh YX16_describe 4 28 [(0, 2, 25), (1, 0, r - l), (2, 0, b - t), (3, 0, k)] [] M2 (fun _ M' => frx (fun c j => c = 31 ∨ c = 32) M M' ∧ ∀ k, 0 ≤ k → k < 19 → M' 31 k = fea ink W l t r b lh lb k) := by
    intro vq
    induction vq using Nat.strongRecOn with
    | ind vq ih =>
      intro k M2 hvq k0 k1 f hk
      refine rh1.of (rX16_describe_28 hh _ _ _ _ ?_)
      refine ⟨fun c => ?_, fun c => ?_⟩
      · have e : M2 32 k = ars ink W l t (r - l) (b - t) 4 4 (k / 4) (k % 4) := by
          rw [f _ _ (by omega)]
          have := a1.out (k / 4) (k % 4) (by omega) (by omega) (by omega) (by omega)
          rwa [show 4 * (k / 4) + k % 4 = k by omega] at this
        have ab := ars_b (ink := ink) (W := W) (l := l) (t := t) (w := r - l) (h := b - t) (C := 4) (Rn := 4) (r := k / 4) (c := k % 4) (by decide) (by decide) ⟨by omega, by omega⟩ ⟨by omega, by omega⟩
        rw [e]
        refine ⟨⟨by omega, by omega⟩, ⟨by omega, by omega⟩, ⟨by omega, by omega⟩, ⟨by omega, by omega⟩, fun v ev => ⟨⟨by omega, by omega⟩, ⟨by omega, by omega⟩, ih _ (by omega) (k + 1) _ rfl (by omega) (by omega) (f.st rfl) (fun i i0 i1 => ?_)⟩⟩
        by_cases q : i = k
        · rw [q, rh_set_s, ev]; unfold fea; rw [if_pos c]
        · rw [rh_set_j q]; exact hk i i0 (by omega)
      · have g2 : M2 25 2 = lh := by rw [f _ _ (by omega), f1 _ _ (by omega), h2]
        have g3 : M2 25 3 = lb := by rw [f _ _ (by omega), f1 _ _ (by omega), h3]
        have g14 : M2 25 14 = b := by rw [f _ _ (by omega), f1 _ _ (by omega), h14]
        refine ⟨⟨by omega, by omega⟩, ⟨by omega, by omega⟩, ⟨by omega, by omega⟩, ?_⟩
        rintro _ rfl
        simp (disch := omega) only [rh_set_a, g2]
        refine ⟨⟨by omega, by omega⟩, ⟨by omega, by omega⟩, ?_⟩
        rintro _ rfl
        simp (disch := omega) only [rh_set_a, g2, g3, g14]
        refine ⟨⟨by omega, by omega⟩, ⟨by omega, by omega⟩, ?_⟩
        rintro _ rfl
        refine ⟨((((f1.w (fun c j h => .inr h)).tr (f.w (fun c j h => .inl h))).st (.inl rfl)).st (.inl rfl)).st (.inl rfl), fun i i0 i1 => ?_⟩
        by_cases q : i = 18
        · rw [q, rh_set_s]; unfold fea; rw [if_neg (by omega), if_neg (by omega), if_neg (by omega)]
        · rw [rh_set_j q]
          by_cases q1 : i = 17
          · rw [q1, rh_set_s]; unfold fea; rw [if_neg (by omega), if_neg (by omega), if_pos rfl]
          · rw [rh_set_j q1]
            by_cases q2 : i = 16
            · rw [q2, rh_set_s]; unfold fea; rw [if_neg (by omega), if_pos rfl]
            · rw [rh_set_j q2]; exact hk i i0 (by omega)
  exact key _ 0 M1 rfl (by omega) (by omega) frx.rf (fun i i0 i1 => by omega)
theorem c_findFeatures (hm : rh_ms wm) {W H l t r b lh lb : Int} (M : rhM) (hW0 : M 0 17 = W) (hW : 0 ≤ W) (hWb : W ≤ 128) (hHb : H ≤ 96) (hN : W * H ≤ 6144) (h11 : M 0 84 = l) (h12 : M 0 85 = t) (h13 : M 0 86 = r) (h14 : M 0 87 = b) (hl : 0 ≤ l ∧ l < r ∧ r ≤ W) (ht : 0 ≤ t ∧ t < b ∧ b ≤ H) (h2 : M 0 82 = lh) (h3 : M 0 83 = lb) (hlh : 1 ≤ lh ∧ lh ≤ 96) (hlb : b ≤ lb ∧ lb ≤ 96) :
    rC1 wm YX32_findFeatures 2 [(2, 0)] M (fun _ M' => frx (fun c j => c = 62) M M' ∧ ∀ k, 0 ≤ k → k < 19 → M' 62 k = fea (M 11) W l t r b lh lb k) := by
  refine rC1.of (by decide) (LE0 rfl) ?_
  refine rh1.of (rX32_findFeatures_0 hm _ ?_)
  rw [h11, h12, h13, h14]
  rintro _ rfl
  refine ⟨⟨by omega, by omega⟩, ?_⟩
  rintro _ rfl
  refine ⟨⟨by omega, by omega⟩, ?_⟩
  generalize hw : r - l = w at *
  generalize hhh : b - t = h at *
  have wb : 0 < w ∧ w ≤ 128 := ⟨by omega, by omega⟩
  have hb : 0 < h ∧ h ≤ 96 := ⟨by omega, by omega⟩
  have hp : 0 < w * h := Int.mul_pos (by omega) (by omega)
  have hp2 := mulb (show 0 ≤ w by omega) wb.2 (show 0 ≤ h by omega) hb.2
  generalize hPost : (fun (_ : Int) (M' : rhM) => frx (fun c j => c = 62) M M' ∧ ∀ k, 0 ≤ k → k < 19 → M' 62 k = fea (M 11) W l t r b lh lb k) = Post
  have key : ∀ (vq : Nat) (k : Int) (M1 : rhM), (16 - k).toNat = vq → (0 ≤ k) → (k ≤ 16) → (frx (fun c j => c = 62) M M1) → (Hid (∀ i, 0 ≤ i → i < k → M1 62 i = fea (M 11) W l t r b lh lb i)) → rh1 wm YX32_findFeatures 2 22 [(0, 2, 0), (1, 0, w), (2, 0, h), (3, 0, k)] [] M1 Post := by
    intro vq
    induction vq using Nat.strongRecOn with
    | ind vq ih =>
      intro k M1 hvq k0 k1 f hk
      have g11 : M1 0 84 = l := by rw [f _ _ (by omega), h11]
      have g12 : M1 0 85 = t := by rw [f _ _ (by omega), h12]
      have g13 : M1 0 86 = r := by rw [f _ _ (by omega), h13]
      have g14 : M1 0 87 = b := by rw [f _ _ (by omega), h14]
      have gi : M1 11 = M 11 := f.cell (fun j => (by omega))
      have g17 : M1 0 17 = W := by rw [f _ _ (by omega), hW0]
      refine rh1.of (rX32_findFeatures_22 hm _ _ _ _ ?_)
      refine ⟨fun c => ⟨⟨by omega, by omega⟩, ⟨by omega, by omega⟩, ?_⟩, fun c => ?_⟩
      · rw [g12]
        have rb : ∀ v, 0 ≤ rsum (fun u => pxs (M 11) W l t w h 4 4 (k / 4) (k % 4) v u) w.toNat ∧ rsum (fun u => pxs (M 11) W l t w h 4 4 (k / 4) (k % 4) v u) w.toNat ≤ 9216 := fun v => by
          have := rsum_b (f := fun u => pxs (M 11) W l t w h 4 4 (k / 4) (k % 4) v u) (m := 72) w.toNat (fun j _ _ => pxs_b (by decide) (by decide))
          omega
        replace rb := Hid.mk rb
        have key2 : ∀ (vq : Nat) (y : Nat) (s : Int), (h - y).toNat = vq → ((y : Int) ≤ h) → (s = rsum (fun v => rsum (fun u => pxs (M 11) W l t w h 4 4 (k / 4) (k % 4) v u) w.toNat) y) → rh1 wm YX32_findFeatures 2 47 [(0, 2, 0), (1, 0, w), (2, 0, h), (3, 0, k), (4, 0, k / 4), (5, 0, k % 4), (6, 0, s), (7, 0, t + (y : Int))] [] M1 Post := by
          intro vq
          induction vq using Nat.strongRecOn with
          | ind vq ih2 =>
            intro y s hvq y1 hs
            have sb := rsum_b (f := fun v => rsum (fun u => pxs (M 11) W l t w h 4 4 (k / 4) (k % 4) v u) w.toNat) (m := 9216) y (fun j _ _ => rb.out j)
            rw [← hs] at sb
            have kq : 0 ≤ k / 4 ∧ k / 4 ≤ 3 := ⟨by omega, by omega⟩
            have kr : 0 ≤ k % 4 ∧ k % 4 ≤ 3 := ⟨by omega, by omega⟩
            have z1 := mulb kq.1 kq.2 (show 0 ≤ h by omega) hb.2
            have z2 := mulb (show 0 ≤ k / 4 + 1 by omega) (show k / 4 + 1 ≤ 4 by omega) (show 0 ≤ h by omega) hb.2
            refine rh1.of (rX32_findFeatures_47 hm _ _ _ _ _ _ _ _ ?_)
            rw [g12, g14, g11]
            refine ⟨fun d => ?_, fun d => ?_⟩
            · rw [show t + (y : Int) - t = y by omega, ovl_i]
              refine ⟨⟨by omega, by omega⟩, ⟨by omega, by omega⟩, ⟨by omega, by omega⟩, ⟨by omega, by omega⟩, ?_, fun hi ehi => ?_⟩
              · rw [rh_ifd, rh_ifd]; split <;> split <;> exact ⟨by omega, by omega⟩
              · rw [ovl_c, show 4 * (y : Int) + 4 = 4 * ((y : Int) + 1) by omega] at ehi
                have hib := ovl_b (a := 4 * (y : Int)) (b := 4 * ((y : Int) + 1)) (c := k / 4 * h) (d := (k / 4 + 1) * h) (by omega)
                rw [← ehi] at hib
                have key3 : ∀ (vq : Nat) (u : Nat) (s' : Int), (w - u).toNat = vq → ((u : Int) ≤ w) → (s' = s + rsum (fun u => pxs (M 11) W l t w h 4 4 (k / 4) (k % 4) y u) u) → rh1 wm YX32_findFeatures 2 97 [(0, 2, 0), (1, 0, w), (2, 0, h), (3, 0, k), (4, 0, k / 4), (5, 0, k % 4), (6, 0, s'), (7, 0, t + (y : Int)), (8, 0, hi), (9, 0, l + (u : Int))] [] M1 Post := by
                  intro vq
                  induction vq using Nat.strongRecOn with
                  | ind vq ih3 =>
                    intro u s' hvq u1 hs'
                    have sb' := rsum_b (f := fun u => pxs (M 11) W l t w h 4 4 (k / 4) (k % 4) y u) (m := 72) u (fun j _ _ => pxs_b (by decide) (by decide))
                    have z3 := mulb kr.1 kr.2 (show 0 ≤ w by omega) wb.2
                    have z4 := mulb (show 0 ≤ k % 4 + 1 by omega) (show k % 4 + 1 ≤ 4 by omega) (show 0 ≤ w by omega) wb.2
                    refine rh1.of (rX32_findFeatures_97 hm _ _ _ _ _ _ _ _ _ _ ?_)
                    rw [g13, g11, g17, gi, Int.mul_comm (t + (y : Int)) W]
                    refine ⟨fun e => ?_, fun e => ⟨⟨by omega, by omega⟩, ?_⟩⟩
                    · have kb := mul_lt (show 0 ≤ l + (u : Int) by omega) (show l + (u : Int) < W by omega) (show 0 ≤ t + (y : Int) by omega) (show t + (y : Int) < H by omega)
                      have kz := Int.mul_nonneg hW (show 0 ≤ t + (y : Int) by omega)
                      refine ⟨⟨by omega, by omega⟩, fun q => ?_, fun q => ⟨⟨by omega, by omega⟩, ?_⟩⟩
                      · rw [show l + (u : Int) - l = u by omega, ovl_i]
                        have eo : ovl (k % 4 * w) ((k % 4 + 1) * w) (4 * (u : Int)) (4 * (u : Int) + 4) = ovl (4 * (u : Int)) (4 * ((u : Int) + 1)) (k % 4 * w) ((k % 4 + 1) * w) := by
                          rw [ovl_c, show 4 * (u : Int) + 4 = 4 * ((u : Int) + 1) by omega]
                        rw [eo]
                        have ob := ovl_b (a := 4 * (u : Int)) (b := 4 * ((u : Int) + 1)) (c := k % 4 * w) (d := (k % 4 + 1) * w) (by omega)
                        have om := mulb hib.1 (show hi ≤ 4 by omega) ob.1 (show _ ≤ (4 : Int) by omega)
                        refine ⟨⟨by omega, by omega⟩, ⟨by omega, by omega⟩, ⟨by omega, by omega⟩, ⟨by omega, by omega⟩, ?_, ?_⟩
                        · rw [rh_ifd, rh_ifd]; split <;> split <;> exact ⟨by omega, by omega⟩
                        · rintro _ rfl
                          refine ⟨⟨by omega, by omega⟩, ⟨by omega, by omega⟩, ?_⟩
                          rw [show l + (u : Int) + 1 = l + ((u + 1 : Nat) : Int) by omega]
                          refine ih3 _ (by omega) (u + 1) _ rfl (by omega) ?_
                          have ep : pxs (M 11) W l t w h 4 4 (k / 4) (k % 4) y u = hi * ovl (4 * (u : Int)) (4 * ((u : Int) + 1)) (k % 4 * w) ((k % 4 + 1) * w) := by
                            unfold pxs; rw [if_pos q]; unfold shr; rw [ehi]
                          simp only [rsum]
                          rw [ep, hs']; omega
                      · rw [show l + (u : Int) + 1 = l + ((u + 1 : Nat) : Int) by omega]
                        refine ih3 _ (by omega) (u + 1) _ rfl (by omega) ?_
                        have ep : pxs (M 11) W l t w h 4 4 (k / 4) (k % 4) y u = 0 := by unfold pxs; rw [if_neg q]
                        simp only [rsum]
                        rw [ep, hs']; omega
                    · rw [show t + (y : Int) + 1 = t + ((y + 1 : Nat) : Int) by omega]
                      refine ih2 _ (by omega) (y + 1) s' rfl (by omega) ?_
                      simp only [rsum]
                      by_cases q : (u : Int) = w
                      · rw [hs', hs, show w.toNat = u by omega]
                      · have hz : hi = 0 := by
                          by_cases q' : 0 < hi
                          · exact absurd ⟨by omega, q'⟩ e
                          · omega
                        have pz : ∀ u' : Int, pxs (M 11) W l t w h 4 4 (k / 4) (k % 4) y u' = 0 := fun u' => by
                          unfold pxs shr
                          rw [← ehi, hz, Int.zero_mul]
                          split <;> rfl
                        rw [hs', hs, rsum_0 u (fun j _ _ => pz j), rsum_0 w.toNat (fun j _ _ => pz j)]
                have h0 := key3 _ 0 s rfl (by omega) (by simp only [rsum]; omega)
                rwa [show l + ((0 : Nat) : Int) = l by omega] at h0
            · have sv : s = ars (M 11) W l t w h 4 4 (k / 4) (k % 4) := by rw [hs]; unfold ars; rw [show h.toNat = y by omega]
              refine ⟨⟨by omega, by omega⟩, ⟨by omega, by omega⟩, ⟨by omega, by omega⟩, ⟨by omega, by omega⟩, ⟨by omega, by omega⟩, ih _ (by omega) (k + 1) _ rfl (by omega) (by omega) (f.st rfl) (fun i i0 i1 => ?_)⟩
              by_cases q : i = k
              · rw [q, rh_set_s]; unfold fea; rw [if_pos c, hw, hhh, sv]
              · rw [rh_set_j q]; exact hk.out i i0 (by omega)
        have h0 := key2 _ 0 0 rfl (by omega) rfl
        rwa [show t + ((0 : Nat) : Int) = t by omega] at h0
      · have g2 : M1 0 82 = lh := by rw [f _ _ (by omega), h2]
        have g3 : M1 0 83 = lb := by rw [f _ _ (by omega), h3]
        refine ⟨⟨by omega, by omega⟩, ⟨by omega, by omega⟩, ⟨by omega, by omega⟩, ?_⟩
        rintro _ rfl
        simp (disch := omega) only [rh_set_a, g2]
        refine ⟨⟨by omega, by omega⟩, ⟨by omega, by omega⟩, ?_⟩
        rintro _ rfl
        simp (disch := omega) only [rh_set_a, g2, g3, g14]
        refine ⟨⟨by omega, by omega⟩, ⟨by omega, by omega⟩, ?_⟩
        rintro _ rfl
        rw [← hPost]
        refine ⟨((f.st rfl).st rfl).st rfl, fun i i0 i1 => ?_⟩
        by_cases q : i = 18
        · rw [q, rh_set_s]; unfold fea; rw [if_neg (by omega), if_neg (by omega), if_neg (by omega)]
        · rw [rh_set_j q]
          by_cases q1 : i = 17
          · rw [q1, rh_set_s]; unfold fea; rw [if_neg (by omega), if_neg (by omega), if_pos rfl, hhh]
          · rw [rh_set_j q1]
            by_cases q2 : i = 16
            · rw [q2, rh_set_s]; unfold fea; rw [if_neg (by omega), if_pos rfl, hw, hhh]
            · rw [rh_set_j q2]; exact hk.out i i0 (by omega)
  exact key _ 0 M rfl (by omega) (by omega) frx.rf (fun i i0 i1 => by omega)
theorem op_feature (hh : rh_hs wh) (hm : rh_ms wm) {Mh Mm : rhM} (R : Rpg Mh Mm) (S : Rsr Mh) (Y : Rly Mh Mm) (x1 x2 x3 x4 x5 : Int) : rC2 wh YX1_feature 5 [(2, 0), (0, x1), (0, x2), (0, x3), (0, x4), (0, x5)] Mh wm YX32_feature 5 [(2, 0), (0, x1), (0, x2), (0, x3), (0, x4), (0, x5)] Mm (fun r M' r2 M2' => r = r2 ∧ Pwd Mh Mm M' M2') := by
  refine rC2.of (by decide) (LE0 rfl) (by decide) (LE0 rfl) ?_
  obtain ⟨r, Ma, r2, Na, E1, E2, e1, e2, e3, hr, h0⟩ := c_laidWord hh hm R Y x1 x2
  rw [e2] at E1
  rw [e3] at E2
  subst e1
  clear e2 e3 Ma Na
  refine rh2.l (rX1_feature_0 hh _ _ _ _ _ _ ?_)
  refine rh2.r (rX32_feature_0 hm _ _ _ _ _ _ ?_)
  refine rh2.sl (vX1_feature_3 hh E1 (LE0 rfl)) (rh2.sr (vX32_feature_3 hm E2 (LE0 rfl)) ?_)
  refine rh2.l (rX1_feature_6 hh _ _ _ _ _ _ _ ?_)
  refine ⟨fun z => ?_, fun z => ⟨fun d => ?_, fun d => ⟨?_, ?_⟩⟩⟩
  · refine rh1.of (rX32_feature_6 hm _ _ _ _ _ _ _ ?_)
    exact ⟨fun _ => ⟨rfl, Pwd.mk0⟩, fun y => by omega⟩
  · refine rh1.of (rX32_feature_6 hm _ _ _ _ _ _ _ ?_)
    exact ⟨fun y => by omega, fun _ => ⟨fun _ => ⟨rfl, Pwd.mk0⟩, fun y => absurd d y⟩⟩
  · have := (h0 (by omega)).1; exact this
  · have z0 : r = 0 := (by omega)
    obtain ⟨hp, hW, h23, h4, LL, LW, hw⟩ := h0 z0
    have hw80 : x2 < 80 := by
      obtain ⟨tot, -, W, -⟩ := LW
      have := W.2.1
      omega
    obtain ⟨r1, M1, r2, M2, K1, K2, f1, f2, P⟩ := c_prep0 hh hm R S hp hW h4 LL LW hw
    obtain ⟨q1, q2, q3, q4, q5, q6, q7, q8, -⟩ := (R x1 hp.1 hp.2).1
    refine rh2.r (rX32_feature_6 hm _ _ _ _ _ _ _ ?_)
    refine ⟨fun y => by omega, fun _ => ⟨fun y => absurd y d, fun _ => ?_⟩⟩
    refine rh2.sl (vX1_feature_43 hh K1 (LE0 rfl)) (rh2.sr (vX32_feature_35 hm K2 (LE0 rfl)) ?_)
    refine rh2.l (rX1_feature_46 hh _ _ _ _ ?_)
    refine rh2.r (rX32_feature_38 hm _ _ _ _ ?_)
    have hx := hs_pg hh hp.1 hp.2
    have hy : rh_bl wh 1 (251 + 39 * x1 + 9) 0 := by
      have := hs_ly hh hp.1 hp.2
      rwa [show 260 + 39 * x1 = 251 + 39 * x1 + 9 by omega] at this
    obtain ⟨r3, M3, r4, M4, K3, K4, e34, r01, f3, f4, PT⟩ := c_part hh hm hx hy (by omega) P ⟨hw.1, hw80⟩ (show 0 ≤ Mm 4 x1 by omega) q4 q6 q5 q8 x3 x4
    refine rh2.sl (vX1_feature_53 hh K3 (LE0 rfl)) (rh2.sr (vX32_feature_42 hm K4 (LE0 rfl)) ?_)
    rw [← e34]
    have P2 : Prp M3 M4 (251 + 39 * x1) x2 (Mm 4 x1) (Mm 5 x1) := P.fx (by omega) (f3.w (fun c j h => by omega)) (f4.w (fun c j h => by omega))
    have FF : frx (fun c j => Fpr c j ∨ c = 25 ∨ c = 31 ∨ c = 32) Mh M3 := (f1.w (fun _ _ h => .inl h)).tr (f3.w (fun c j h => .inr (.inl h.1)))
    have GG : frx (fun c j => (c = 0 ∧ (j = 0 ∨ (84 ≤ j ∧ j ≤ 87))) ∨ Gpr c j ∨ c = 62) Mm M4 := (Pwd.mk2 f1 f2).2.tr (f4.w (fun c j h => .inl ⟨h.1, .inr h.2⟩))
    refine rh2.l (rX1_feature_56 hh _ _ _ ?_)
    refine ⟨fun y => ?_, fun y => ?_⟩
    · refine rh1.of (rX32_feature_45 hm _ _ _ ?_)
      exact ⟨fun _ => ⟨rfl, FF, GG⟩, fun u => absurd y u⟩
    · refine rh2.r (rX32_feature_45 hm _ _ _ ?_)
      refine ⟨fun u => absurd u y, fun _ => ?_⟩
      obtain ⟨⟨t1, t2, t3, t4, t5, t6, t7, t8⟩, -⟩ := PT y
      obtain ⟨p1, p2, -, p4, p5, -⟩ := P2
      obtain ⟨r5, M5, K5, f5, v5⟩ := c_describe hh (l := M4 0 84) (t := M4 0 85) (r := M4 0 86) (b := M4 0 87) (lh := M4 0 82) (lb := M4 0 83) hx (by omega) M3 p1 (show 0 ≤ Mm 4 x1 by omega) q4 q6 q8 t1 t2 t3 t4 t5 t6 p4.1 p5.1 p4.2 ⟨t7.1, p5.2⟩
      obtain ⟨r6, M6, K6, f6, v6⟩ := c_findFeatures hm (l := M4 0 84) (t := M4 0 85) (r := M4 0 86) (b := M4 0 87) (lh := M4 0 82) (lb := M4 0 83) M4 p2.1 (show 0 ≤ Mm 4 x1 by omega) q4 q6 q8 rfl rfl rfl rfl t5 t6 rfl rfl p4.2 ⟨t7.1, p5.2⟩
      refine rh2.sl (vX1_feature_65 hh K5 (LE0 rfl)) (rh2.sr (vX32_feature_51 hm K6 (LE0 rfl)) ?_)
      refine rh2.l (rX1_feature_68 hh _ _ ?_)
      refine ⟨⟨by omega, by omega⟩, ?_⟩
      refine rh1.of (rX32_feature_54 hm _ _ ?_)
      refine ⟨⟨by omega, by omega⟩, ?_, FF.tr (f5.w (fun c j h => .inr (.inr h))), GG.tr (f6.w (fun c j h => .inr (.inr h)))⟩
      rw [v5 x5 (by omega) (by omega), v6 x5 (by omega) (by omega)]
end Feature
