/-! ===== LAYER 2: the black of a box by cells (measure) ===== -/
section Area
variable {wh wm : rhW}
def ovl (a b c d : Int) : Int := max 0 (min b d - max a c)
theorem ovl_i {a b c d : Int} : rh_if (0 < rh_if (d < b) d b - rh_if (a < c) c a) (rh_if (d < b) d b - rh_if (a < c) c a) 0 = ovl a b c d := by
  unfold ovl
  rw [rh_ifd, rh_ifd, rh_ifd]
  split <;> split <;> split <;> omega
theorem ovl_b {a b c d : Int} (h : a ≤ b) : 0 ≤ ovl a b c d ∧ ovl a b c d ≤ b - a := by unfold ovl; omega
theorem ovl_c {a b c d : Int} : ovl a b c d = ovl c d a b := by unfold ovl; omega
/-- a pixel's share of a cell -/
def shr (C Rn w h x y r c : Int) : Int := ovl (Rn * y) (Rn * (y + 1)) (r * h) ((r + 1) * h) * ovl (C * x) (C * (x + 1)) (c * w) ((c + 1) * w)
theorem ov_lo {n y h r : Int} (hh : 0 < h) (hr : r < n * y / h) : ovl (n * y) (n * (y + 1)) (r * h) ((r + 1) * h) = 0 := by
  have h1 : (r + 1) * h ≤ n * y / h * h := Int.mul_le_mul_of_nonneg_right (by omega) (by omega)
  have h2 : n * y / h * h ≤ n * y := Int.ediv_mul_le _ (by omega)
  unfold ovl
  omega
theorem ov_hi {n y h r r' : Int} (hh : 0 < h) (hr : r ≤ r') (hz : n * (y + 1) ≤ r * h) : ovl (n * y) (n * (y + 1)) (r' * h) ((r' + 1) * h) = 0 := by
  have h1 : r * h ≤ r' * h := Int.mul_le_mul_of_nonneg_right hr (by omega)
  unfold ovl
  omega
theorem c_measure2 (hh : rh_hs wh) {x y w h C Rn K : Int} (M : rhM) (hC : 1 ≤ C ∧ C ≤ 9) (hR : 1 ≤ Rn ∧ Rn ≤ 8) (hx : 0 ≤ x ∧ x < w) (hy : 0 ≤ y ∧ y < h) (hw : w ≤ 128) (hh2 : h ≤ 96) (hK : 0 ≤ K ∧ K ≤ 1000000) (hM : ∀ r c, 0 ≤ r → r < Rn → 0 ≤ c → c < C → 0 ≤ M 32 (C * r + c) ∧ M 32 (C * r + c) ≤ K) :
    rC1 wh YX16_measure_2 2 [(2, 25), (0, x), (0, y), (0, w), (0, h), (0, C), (0, Rn)] M (fun _ M' => frx (fun c j => c = 32) M M' ∧ ∀ r c, 0 ≤ r → r < Rn → 0 ≤ c → c < C → M' 32 (C * r + c) = M 32 (C * r + c) + shr C Rn w h x y r c) := by
  refine rC1.of (by decide) (LE0 rfl) ?_
  have b1 := mulb (show 0 ≤ Rn by omega) hR.2 hy.1 (show y ≤ 96 by omega)
  have b2 := mulb (show 0 ≤ Rn by omega) hR.2 (show 0 ≤ y + 1 by omega) (show y + 1 ≤ 97 by omega)
  have b3 := mulb (show 0 ≤ C by omega) hC.2 hx.1 (show x ≤ 128 by omega)
  have b4 := mulb (show 0 ≤ C by omega) hC.2 (show 0 ≤ x + 1 by omega) (show x + 1 ≤ 129 by omega)
  have e1 : Rn * (y + 1) = Rn * y + Rn := by rw [Int.mul_add, Int.mul_one]
  have e2 : C * (x + 1) = C * x + C := by rw [Int.mul_add, Int.mul_one]
  have q0 : 0 ≤ Rn * y / h := Int.ediv_nonneg b1.1 (by omega)
  have q1 : 0 ≤ C * x / w := Int.ediv_nonneg b3.1 (by omega)
  refine rh1.of (rX16_measure_2_0 hh _ _ _ _ _ _ _ ?_)
  refine ⟨⟨by omega, by omega⟩, ⟨by omega, by omega⟩, ?_⟩
  generalize hPost : (fun (_ : Int) (M' : rhM) => frx (fun c j => c = 32) M M' ∧ ∀ r c, 0 ≤ r → r < Rn → 0 ≤ c → c < C → M' 32 (C * r + c) = M 32 (C * r + c) + shr C Rn w h x y r c) = Post
  replace hM := Hid.mk hM
  have ob : ∀ r : Int, 0 ≤ ovl (Rn * y) (Rn * (y + 1)) (r * h) ((r + 1) * h) ∧ ovl (Rn * y) (Rn * (y + 1)) (r * h) ((r + 1) * h) ≤ 8 := fun r => by
    have := ovl_b (a := Rn * y) (b := Rn * (y + 1)) (c := r * h) (d := (r + 1) * h) (by omega)
    omega
  have ob2 : ∀ c : Int, 0 ≤ ovl (C * x) (C * (x + 1)) (c * w) ((c + 1) * w) ∧ ovl (C * x) (C * (x + 1)) (c * w) ((c + 1) * w) ≤ 9 := fun c => by
    have := ovl_b (a := C * x) (b := C * (x + 1)) (c := c * w) (d := (c + 1) * w) (by omega)
    omega
  have idx : ∀ r c r' c' : Int, 0 ≤ c → c < C → 0 ≤ c' → c' < C → C * r + c = C * r' + c' → r = r' ∧ c = c' := fun r c r' c' a1 a2 a3 a4 e => by
    have d1 := dm_x (W := C) (v := r) a1 a2
    have d2 := dm_x (W := C) (v := r') a3 a4
    rw [e, d2.1, d2.2] at d1
    exact ⟨d1.2.symm, d1.1.symm⟩
  have irg : ∀ r c : Int, 0 ≤ r → r < Rn → 0 ≤ c → c < C → 0 ≤ C * r + c ∧ C * r + c < 72 := fun r c a1 a2 a3 a4 => by
    have z1 := mulb (show 0 ≤ C by omega) hC.2 a1 (show r ≤ 7 by omega)
    have z2 := mul_lt (a := C) (b := Rn) a3 a4 a1 a2
    have z3 := mulb (show 0 ≤ C by omega) hC.2 (show 0 ≤ Rn by omega) hR.2
    omega
  replace idx := Hid.mk idx
  replace irg := Hid.mk irg
  have key : ∀ (vq : Nat) (r : Int) (M1 : rhM), (Rn - r).toNat = vq → (0 ≤ r) → (frx (fun c j => c = 32) M M1) → (Hid (∀ r' c, 0 ≤ r' → r' < Rn → 0 ≤ c → c < C → (r' < r → M1 32 (C * r' + c) = M 32 (C * r' + c) + shr C Rn w h x y r' c) ∧ (r ≤ r' → M1 32 (C * r' + c) = M 32 (C * r' + c)))) → rh1 wh YX16_measure_2 2 9 [(0, 2, 25), (1, 0, x), (2, 0, y), (3, 0, w), (4, 0, h), (5, 0, C), (6, 0, Rn), (7, 0, r)] [] M1 Post := by
    intro vq
    induction vq using Nat.strongRecOn with
    | ind vq ih =>
      intro r M1 hvq r0 f hd
      refine rh1.of (rX16_measure_2_9 hh _ _ _ _ _ _ _ _ ?_)
      refine ⟨fun z => ?_, fun z => ⟨by omega, by omega⟩, fun z => ?_, fun z => ?_⟩
      · have := mulb r0 (show r ≤ 8 by omega) (show 0 ≤ h by omega) hh2
        exact ⟨by omega, by omega⟩
      · have z1 := mulb r0 (show r ≤ 8 by omega) (show 0 ≤ h by omega) hh2
        have z2 := mulb (show 0 ≤ r + 1 by omega) (show r + 1 ≤ 9 by omega) (show 0 ≤ h by omega) hh2
        rw [ovl_i]
        refine ⟨⟨by omega, by omega⟩, ⟨by omega, by omega⟩, ⟨by omega, by omega⟩, ⟨by omega, by omega⟩, ?_, ?_⟩
        · rw [rh_ifd, rh_ifd]; split <;> split <;> exact ⟨by omega, by omega⟩
        · rintro _ rfl
          refine ⟨⟨by omega, by omega⟩, ⟨by omega, by omega⟩, ?_⟩
          have key2 : ∀ (vq : Nat) (c : Int) (M2 : rhM), (C - c).toNat = vq → (0 ≤ c) → (frx (fun c j => c = 32) M M2) → (Hid (∀ r' c', 0 ≤ r' → r' < Rn → 0 ≤ c' → c' < C → ((r' < r ∨ (r' = r ∧ c' < c)) → M2 32 (C * r' + c') = M 32 (C * r' + c') + shr C Rn w h x y r' c') ∧ (¬ (r' < r ∨ (r' = r ∧ c' < c)) → M2 32 (C * r' + c') = M 32 (C * r' + c')))) → rh1 wh YX16_measure_2 2 65 [(0, 2, 25), (1, 0, x), (2, 0, y), (3, 0, w), (4, 0, h), (5, 0, C), (6, 0, Rn), (7, 0, r), (8, 0, ovl (Rn * y) (Rn * (y + 1)) (r * h) ((r + 1) * h)), (9, 0, c)] [] M2 Post := by
            intro vq
            induction vq using Nat.strongRecOn with
            | ind vq ih2 =>
              intro c M2 hvq c0 f2 hd2
              refine rh1.of (rX16_measure_2_65 hh _ _ _ _ _ _ _ _ _ _ ?_)
              refine ⟨fun z => ?_, fun z => ⟨by omega, by omega⟩, fun d => ?_, fun d => ⟨⟨by omega, by omega⟩, ?_⟩⟩
              · have := mulb c0 (show c ≤ 9 by omega) (show 0 ≤ w by omega) hw
                exact ⟨by omega, by omega⟩
              · have z3 := mulb c0 (show c ≤ 9 by omega) (show 0 ≤ w by omega) hw
                have z4 := mulb (show 0 ≤ c + 1 by omega) (show c + 1 ≤ 10 by omega) (show 0 ≤ w by omega) hw
                have ir := irg.out r c r0 z.1 c0 d.1
                have o1 := ob r
                have o2 := ob2 c
                have o3 := mulb o1.1 o1.2 o2.1 o2.2
                have mk := hM.out r c r0 z.1 c0 d.1
                have m2 := (hd2.out r c r0 z.1 c0 d.1).2 (fun y => by omega)
                rw [ovl_i, m2]
                refine ⟨ir, ⟨by omega, by omega⟩, ⟨by omega, by omega⟩, ⟨by omega, by omega⟩, ⟨by omega, by omega⟩, ?_, ?_⟩
                · rw [rh_ifd, rh_ifd]; split <;> split <;> exact ⟨by omega, by omega⟩
                · rintro _ rfl
                  refine ⟨ir, ⟨by omega, by omega⟩, ⟨by omega, by omega⟩, ih2 _ (by omega) (c + 1) _ rfl (by omega) (f2.st rfl) (fun r' c' a1 a2 a3 a4 => ?_)⟩
                  · by_cases q : C * r' + c' = C * r + c
                    · obtain ⟨q1, q2⟩ := idx.out _ _ _ _ a3 a4 c0 d.1 q
                      rw [q1, q2, rh_set_s]
                      exact ⟨fun _ => rfl, fun y => absurd (.inr ⟨rfl, by omega⟩) y⟩
                    · rw [rh_set_j q]
                      have hv := hd2.out r' c' a1 a2 a3 a4
                      refine ⟨fun y => hv.1 ?_, fun y => hv.2 (fun u => y (by omega))⟩
                      rcases y with y | ⟨y1, y2⟩
                      · exact .inl y
                      · refine .inr ⟨y1, ?_⟩
                        by_cases e : c' = c
                        · rw [y1, e] at q; exact absurd rfl q
                        · omega
              · refine ih _ (by omega) (r + 1) M2 rfl (by omega) f2 (fun r' c' a1 a2 a3 a4 => ?_)
                have hv := hd2.out r' c' a1 a2 a3 a4
                refine ⟨fun y => ?_, fun y => hv.2 (fun u => by omega)⟩
                by_cases q : r' < r ∨ (r' = r ∧ c' < c)
                · exact hv.1 q
                · rw [hv.2 q]
                  have e : r' = r := (by omega)
                  have cz : C * (x + 1) ≤ c * w := by
                    by_cases u : c < C
                    · exact Int.not_lt.mp (fun k => d ⟨u, k⟩)
                    · have := Int.mul_le_mul_of_nonneg_right (show C ≤ c by omega) (show 0 ≤ w by omega)
                      have := Int.mul_le_mul_of_nonneg_left (show x + 1 ≤ w by omega) (show 0 ≤ C by omega)
                      omega
                  unfold shr
                  rw [ov_hi (h := w) (r := c) (r' := c') (by omega) (by omega) cz, Int.mul_zero, Int.add_zero]
          refine key2 _ (C * x / w) M1 rfl q1 f (fun r' c' a1 a2 a3 a4 => ?_)
          have hv := hd.out r' c' a1 a2 a3 a4
          refine ⟨fun y => ?_, fun y => hv.2 (by omega)⟩
          by_cases q : r' < r
          · exact hv.1 q
          · rw [hv.2 (by omega)]
            unfold shr
            rw [ov_lo (n := C) (y := x) (h := w) (r := c') (by omega) (by omega), Int.mul_zero, Int.add_zero]
      · rw [← hPost]
        refine ⟨f, fun r' c' a1 a2 a3 a4 => ?_⟩
        have hv := hd.out r' c' a1 a2 a3 a4
        by_cases q : r' < r
        · exact hv.1 q
        · rw [hv.2 (by omega)]
          have rz : Rn * (y + 1) ≤ r * h := by
            by_cases u : r < Rn
            · exact Int.not_lt.mp (fun k => z ⟨u, k⟩)
            · have := Int.mul_le_mul_of_nonneg_right (show Rn ≤ r by omega) (show 0 ≤ h by omega)
              have := Int.mul_le_mul_of_nonneg_left (show y + 1 ≤ h by omega) (show 0 ≤ Rn by omega)
              omega
          unfold shr
          rw [ov_hi (h := h) (r := r) (r' := r') (by omega) (by omega) rz, Int.zero_mul, Int.add_zero]
  refine key _ (Rn * y / h) M rfl q0 frx.rf (fun r' c' a1 a2 a3 a4 => ⟨fun y => ?_, fun _ => rfl⟩)
  unfold shr
  rw [ov_lo (n := Rn) (h := h) (r := r') (by omega) y, Int.zero_mul, Int.add_zero]
/-- sums along a row, over rows -/
def rsum (f : Int → Int) : Nat → Int
  | 0 => 0
  | n + 1 => rsum f n + f n
theorem rsum_cg {f g : Int → Int} : ∀ n : Nat, (∀ j : Int, 0 ≤ j → j < n → f j = g j) → rsum f n = rsum g n
  | 0 => fun _ => rfl
  | n + 1 => fun h => by
    simp only [rsum]
    rw [rsum_cg n (fun j a b => h j a (by omega)), h n (by omega) (by omega)]
theorem rsum_0 {f : Int → Int} : ∀ n : Nat, (∀ j : Int, 0 ≤ j → j < n → f j = 0) → rsum f n = 0
  | 0 => fun _ => rfl
  | n + 1 => fun h => by
    simp only [rsum]
    rw [rsum_0 n (fun j a b => h j a (by omega)), h n (by omega) (by omega)]; rfl
theorem rsum_b {f : Int → Int} {m : Int} : ∀ n : Nat, (∀ j : Int, 0 ≤ j → j < n → 0 ≤ f j ∧ f j ≤ m) → 0 ≤ rsum f n ∧ rsum f n ≤ m * n
  | 0 => fun _ => by simp [rsum]
  | n + 1 => fun h => by
    have h1 := rsum_b n (fun j a b => h j a (by omega))
    have h2 := h n (by omega) (by omega)
    simp only [rsum]
    rw [show ((n + 1 : Nat) : Int) = (n : Int) + 1 by omega, Int.mul_add, Int.mul_one]
    omega
/-- the share of all black ones in a cell -/
def pxs (ink : Int → Int) (W l t w h C Rn r c v u : Int) : Int := if ink (W * (t + v) + (l + u)) ≠ 0 then shr C Rn w h u v r c else 0
def ars (ink : Int → Int) (W l t w h C Rn r c : Int) : Int := rsum (fun v => rsum (fun u => pxs ink W l t w h C Rn r c v u) w.toNat) h.toNat
theorem shr_b {C Rn w h x y r c : Int} (hC : 1 ≤ C ∧ C ≤ 9) (hR : 1 ≤ Rn ∧ Rn ≤ 8) : 0 ≤ shr C Rn w h x y r c ∧ shr C Rn w h x y r c ≤ 72 := by
  have e1 : Rn * (y + 1) = Rn * y + Rn := by rw [Int.mul_add, Int.mul_one]
  have e2 : C * (x + 1) = C * x + C := by rw [Int.mul_add, Int.mul_one]
  have o1 := ovl_b (a := Rn * y) (b := Rn * (y + 1)) (c := r * h) (d := (r + 1) * h) (by omega)
  have o2 := ovl_b (a := C * x) (b := C * (x + 1)) (c := c * w) (d := (c + 1) * w) (by omega)
  have := mulb o1.1 (show _ ≤ (8 : Int) by omega) o2.1 (show _ ≤ (9 : Int) by omega)
  exact this
theorem pxs_b {ink : Int → Int} {W l t w h C Rn r c v u : Int} (hC : 1 ≤ C ∧ C ≤ 9) (hR : 1 ≤ Rn ∧ Rn ≤ 8) : 0 ≤ pxs ink W l t w h C Rn r c v u ∧ pxs ink W l t w h C Rn r c v u ≤ 72 := by
  unfold pxs
  split
  · exact shr_b hC hR
  · omega
theorem ars_b {ink : Int → Int} {W l t w h C Rn r c : Int} (hC : 1 ≤ C ∧ C ≤ 9) (hR : 1 ≤ Rn ∧ Rn ≤ 8) (hw : 0 ≤ w ∧ w ≤ 128) (hh : 0 ≤ h ∧ h ≤ 96) : 0 ≤ ars ink W l t w h C Rn r c ∧ ars ink W l t w h C Rn r c ≤ 884736 := by
  have h1 : ∀ v : Int, 0 ≤ rsum (fun u => pxs ink W l t w h C Rn r c v u) w.toNat ∧ rsum (fun u => pxs ink W l t w h C Rn r c v u) w.toNat ≤ 9216 := fun v => by
    have := rsum_b (f := fun u => pxs ink W l t w h C Rn r c v u) (m := 72) w.toNat (fun j _ _ => pxs_b hC hR)
    have : (72 : Int) * (w.toNat : Int) ≤ 9216 := by omega
    omega
  have := rsum_b (f := fun v => rsum (fun u => pxs ink W l t w h C Rn r c v u) w.toNat) (m := 9216) h.toNat (fun j _ _ => h1 j)
  unfold ars
  omega
theorem c_measure (hh : rh_hs wh) {x w0 W H C Rn l t r b : Int} {ink : Int → Int} (hx : rh_bl wh 0 x 0) (hx2 : 100 ≤ x) (M : rhM) (hc : CtH M x w0 W H ink) (hW : 0 ≤ W) (hWb : W ≤ 128) (hHb : H ≤ 96) (hN : W * H ≤ 6144) (hC : 1 ≤ C ∧ C ≤ 9) (hR : 1 ≤ Rn ∧ Rn ≤ 8) (h11 : M 25 11 = l) (h12 : M 25 12 = t) (h13 : M 25 13 = r) (h14 : M 25 14 = b) (hl : 0 ≤ l ∧ l < r ∧ r ≤ W) (ht : 0 ≤ t ∧ t < b ∧ b ≤ H) :
    rC1 wh YX16_measure 3 [(2, 25), (0, C), (0, Rn)] M (fun _ M' => frx (fun c j => c = 32) M M' ∧ ∀ rr c, 0 ≤ rr → rr < Rn → 0 ≤ c → c < C → M' 32 (C * rr + c) = ars ink W l t (r - l) (b - t) C Rn rr c) := by
  refine rC1.of (by decide) (LE0 rfl) ?_
  have cr := mulb (show 0 ≤ C by omega) hC.2 (show 0 ≤ Rn by omega) hR.2
  refine rh1.of (rX16_measure_0 hh _ _ _ ?_)
  rw [h11, h12, h13, h14]
  rintro _ rfl
  refine ⟨⟨by omega, by omega⟩, ?_⟩
  rintro _ rfl
  refine ⟨⟨by omega, by omega⟩, ?_⟩
  generalize hw : r - l = w at *
  generalize hhh : b - t = h at *
  have wb : 0 < w ∧ w ≤ 128 := ⟨by omega, by omega⟩
  have hb : 0 < h ∧ h ≤ 96 := ⟨by omega, by omega⟩
  generalize hPost : (fun (_ : Int) (M' : rhM) => frx (fun c j => c = 32) M M' ∧ ∀ rr c, 0 ≤ rr → rr < Rn → 0 ≤ c → c < C → M' 32 (C * rr + c) = ars ink W l t w h C Rn rr c) = Post
  have key : ∀ (vq : Nat) (k : Int) (M1 : rhM), (C * Rn - k).toNat = vq → (0 ≤ k) → (k ≤ C * Rn) → (frx (fun c j => c = 32) M M1) → ((∀ j, 0 ≤ j → j < k → M1 32 j = 0)) → rh1 wh YX16_measure 3 24 [(0, 2, 25), (1, 0, C), (2, 0, Rn), (3, 0, w), (4, 0, h), (5, 0, k)] [] M1 Post := by
    intro vq
    induction vq using Nat.strongRecOn with
    | ind vq ih =>
      intro k M1 hvq k0 k1 f hz
      refine rh1.of (rX16_measure_24 hh _ _ _ _ _ _ ?_)
      refine ⟨⟨by omega, by omega⟩, fun c => ⟨⟨by omega, by omega⟩, ⟨by omega, by omega⟩, ih _ (by omega) (k + 1) _ rfl (by omega) (by omega) (f.st rfl) (fun j j0 j1 => ?_)⟩, fun c => ?_⟩
      · rw [rh_sets, if_pos rfl]
        split
        · rfl
        · exact hz j j0 (by omega)
      · have rb : ∀ rr c v, 0 ≤ rsum (fun u => pxs ink W l t w h C Rn rr c v u) w.toNat ∧ rsum (fun u => pxs ink W l t w h C Rn rr c v u) w.toNat ≤ 9216 := fun rr c v => by
          have := rsum_b (f := fun u => pxs ink W l t w h C Rn rr c v u) (m := 72) w.toNat (fun j _ _ => pxs_b hC hR)
          omega
        replace rb := Hid.mk rb
        have irg : ∀ r c : Int, 0 ≤ r → r < Rn → 0 ≤ c → c < C → 0 ≤ C * r + c ∧ C * r + c < C * Rn := fun r c a1 a2 a3 a4 => by
          have z1 := Int.mul_nonneg (show 0 ≤ C by omega) a1
          have z2 := mul_lt (a := C) (b := Rn) a3 a4 a1 a2
          omega
        have key2 : ∀ (vq : Nat) (y : Nat) (M2 : rhM), (h - y).toNat = vq → ((y : Int) ≤ h) → (frx (fun c j => c = 32) M M2) → (Hid (∀ rr c, 0 ≤ rr → rr < Rn → 0 ≤ c → c < C → M2 32 (C * rr + c) = rsum (fun v => rsum (fun u => pxs ink W l t w h C Rn rr c v u) w.toNat) y)) → rh1 wh YX16_measure 3 49 [(0, 2, 25), (1, 0, C), (2, 0, Rn), (3, 0, w), (4, 0, h), (5, 0, (y : Int))] [] M2 Post := by
          intro vq
          induction vq using Nat.strongRecOn with
          | ind vq ih2 =>
            intro y M2 hvq y1 f2 h2
            refine rh1.of (rX16_measure_49 hh _ _ _ _ _ _ ?_)
            refine ⟨fun d => ?_, fun d => ?_⟩
            · have key3 : ∀ (vq : Nat) (u : Nat) (M3 : rhM), (w - u).toNat = vq → ((u : Int) ≤ w) → (frx (fun c j => c = 32) M M3) → (Hid (∀ rr c, 0 ≤ rr → rr < Rn → 0 ≤ c → c < C → M3 32 (C * rr + c) = rsum (fun v => rsum (fun u => pxs ink W l t w h C Rn rr c v u) w.toNat) y + rsum (fun u => pxs ink W l t w h C Rn rr c y u) u)) → rh1 wh YX16_measure 3 59 [(0, 2, 25), (1, 0, C), (2, 0, Rn), (3, 0, w), (4, 0, h), (5, 0, (y : Int)), (6, 0, (u : Int))] [] M3 Post := by
                intro vq
                induction vq using Nat.strongRecOn with
                | ind vq ih3 =>
                  intro u M3 hvq u1 f3 h3
                  have eU : (u : Int) + 1 = ((u + 1 : Nat) : Int) := (by omega)
                  have hc3 : CtH M3 x w0 W H ink := hc.fx (f3 _ _ (by omega)) (f3 _ _ (by omega)) (f3 _ _ (by omega)) (f3.cell (fun j => (by omega))) (f3.cell (fun j => (by omega)))
                  refine rh1.of (rX16_measure_59 hh _ _ _ _ _ _ _ ?_)
                  rw [f3 25 12 (by omega), f3 25 11 (by omega), h11, h12]
                  refine ⟨fun e => ?_, fun e => ⟨⟨by omega, by omega⟩, ?_⟩⟩
                  · refine rh1.s (eS.fx 0 (x := t + y) rfl ⟨by omega, by omega⟩ rfl) (rh1.s (eS.fx 1 (x := l + u) rfl ⟨by omega, by omega⟩ rfl) ?_)
                    refine rh1.s (vX16_measure_80 hh (c_isInk hh hx M3 hc3 hW hN (u := l + u) (v := t + y) (by omega) (by omega) (by omega) (by omega)) (LE0 rfl)) ?_
                    refine rh1.of (rX16_measure_83 hh _ _ _ _ _ _ _ _ ?_)
                    rw [propext if1_ne]
                    refine ⟨fun q => ?_, fun q => ⟨⟨by omega, by omega⟩, ?_⟩⟩
                    · have kb : ∀ rr c, 0 ≤ rr → rr < Rn → 0 ≤ c → c < C → 0 ≤ M3 32 (C * rr + c) ∧ M3 32 (C * rr + c) ≤ 1000000 := fun rr c a1 a2 a3 a4 => by
                        rw [h3.out rr c a1 a2 a3 a4]
                        have g1 := rsum_b (f := fun v => rsum (fun u => pxs ink W l t w h C Rn rr c v u) w.toNat) (m := 9216) y (fun j _ _ => rb.out rr c j)
                        have g2 := rsum_b (f := fun u => pxs ink W l t w h C Rn rr c y u) (m := 72) u (fun j _ _ => pxs_b hC hR)
                        omega
                      obtain ⟨r1, M4, E4, f4, h4⟩ := c_measure2 hh (x := (u : Int)) (y := (y : Int)) (w := w) (h := h) (K := 1000000) M3 hC hR ⟨by omega, by omega⟩ ⟨by omega, by omega⟩ wb.2 hb.2 ⟨by omega, by omega⟩ kb
                      refine rh1.s (vX16_measure_96 hh E4 (LE0 rfl)) ?_
                      refine rh1.of (rX16_measure_99 hh _ _ _ _ _ _ _ ?_)
                      refine ⟨⟨by omega, by omega⟩, ?_⟩
                      rw [eU]
                      refine ih3 _ (by omega) (u + 1) M4 rfl (by omega) (f3.tr f4) (fun rr c a1 a2 a3 a4 => ?_)
                      rw [h4 rr c a1 a2 a3 a4, h3.out rr c a1 a2 a3 a4]
                      have ep : pxs ink W l t w h C Rn rr c y u = shr C Rn w h u y rr c := by unfold pxs; rw [if_pos q]
                      simp only [rsum]
                      rw [ep]; omega
                    · rw [eU]
                      refine ih3 _ (by omega) (u + 1) M3 rfl (by omega) f3 (fun rr c a1 a2 a3 a4 => ?_)
                      rw [h3.out rr c a1 a2 a3 a4]
                      have ep : pxs ink W l t w h C Rn rr c y u = 0 := by unfold pxs; rw [if_neg q]
                      simp only [rsum]
                      rw [ep]; omega
                  · rw [show (y : Int) + 1 = ((y + 1 : Nat) : Int) by omega]
                    refine ih2 _ (by omega) (y + 1) M3 rfl (by omega) f3 (fun rr c a1 a2 a3 a4 => ?_)
                    rw [h3.out rr c a1 a2 a3 a4, show w.toNat = u by omega]
                    rfl
              refine key3 _ 0 M2 rfl (by omega) f2 (fun rr c a1 a2 a3 a4 => ?_)
              rw [h2.out rr c a1 a2 a3 a4]
              simp only [rsum]
              omega
            · rw [← hPost]
              refine ⟨f2, fun rr c a1 a2 a3 a4 => ?_⟩
              rw [h2.out rr c a1 a2 a3 a4]
              unfold ars
              rw [show h.toNat = y by omega]
        refine key2 _ 0 M1 rfl (by omega) f (fun rr c a1 a2 a3 a4 => ?_)
        have := irg rr c a1 a2 a3 a4
        exact hz _ this.1 (by omega)
  exact key _ 0 M rfl (by omega) cr.1 frx.rf (fun j j0 j1 => by omega)
end Area
