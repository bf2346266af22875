/-! ===== LAYER 2: smear, the house ===== -/
section SmearH
variable {wh wm : rhW}
def rowf (gap W : Int) (g : Int → Int → Int) : Int → Int → Int := fun u v => (flp gap (fun u => g u v) W.toNat).2 u
def colf (gap H : Int) (g : Int → Int → Int) : Int → Int → Int := fun u v => (flp gap (fun v => g u v) H.toNat).2 v
theorem c_smearH (hh : rh_hs wh) {x p q W H : Int} (hx : rh_bl wh 0 x 0) (hx2 : 15 ≤ x) (M : rhM) (hW : M x 1 = W) (hH : M x 2 = H) (hW0 : 0 < W) (hWb : W ≤ 128) (hH0 : 0 ≤ H) (hHb : H ≤ 96) (hN0 : 0 ≤ W * H) (hN : W * H ≤ 6144) (hp : 1 ≤ p ∧ p ≤ 60) (hq : 1 ≤ q ∧ q ≤ 60) {g : Int → Int → Int} (hg : ∀ u v, 0 ≤ u → u < W → 0 ≤ v → v < H → g u v = if rh_and (M (x + 1) (W * v + u)) 255 < 128 then 1 else 0) :
    rC1 wh YX30_smear 2 [(2, x), (0, p), (0, q), (2, 8)] M (fun r M' => r = 0 ∧ frx (fun c _ => c = 8 ∨ c = 9) M M' ∧ M' 8 1 = W ∧ M' 8 2 = H ∧ ∀ u v, 0 ≤ u → u < W → 0 ≤ v → v < H → M' 9 (W * v + u) = if colf q H (rowf p W g) u v ≠ 0 then 0 else -1) := by
  refine rC1.of (by decide) (LE0 rfl) ?_
  refine rh1.of (rX30_smear_0 hh _ _ _ _ _ hx (hs_sh hh) ?_)
  rw [hW, hH]
  have key : ∀ (vq : Nat) (k : Int) (M' : rhM), (W * H - k).toNat = vq → (0 ≤ k) → (k ≤ W * H) → (frx (fun c _ => c = 8 ∨ c = 9) M M') → (M' 8 1 = W) → (M' 8 2 = H) → (∀ j, 0 ≤ j → j < k → M' 9 j = if g (j % W) (j / W) ≠ 0 then 0 else -1) → rh1 wh YX30_smear 2 15 [(0, 2, x), (1, 0, p), (2, 0, q), (3, 2, 8), (4, 0, k)] [] M' (fun r M' => r = 0 ∧ frx (fun c _ => c = 8 ∨ c = 9) M M' ∧ M' 8 1 = W ∧ M' 8 2 = H ∧ ∀ u v, 0 ≤ u → u < W → 0 ≤ v → v < H → M' 9 (W * v + u) = if colf q H (rowf p W g) u v ≠ 0 then 0 else -1) := by
    intro vq
    induction vq using Nat.strongRecOn with
    | ind vq ih =>
      intro k M' hvq k0 k1 f s1 s2 hj
      refine rh1.of (rX30_smear_15 hh _ _ _ _ _ _ hx (hs_sh hh) ?_)
      rw [f _ _ (by omega), hW, f _ _ (by omega), hH, f.cell (a := x + 1) (fun j => (by omega)), show (8 + 1 : Int) = 9 from rfl]
      refine ⟨⟨by omega, by omega⟩, fun c => ⟨⟨by omega, by omega⟩, fun v ev => ?_⟩, fun c => ?_⟩
      · have db := dm_b hW0 k0 c
        have hgk := hg (k % W) (k / W) db.1.1 db.1.2 db.2.1 db.2.2
        rw [← dm k W] at hgk
        have hv : v = if g (k % W) (k / W) ≠ 0 then 0 else -1 := by
          rw [ev, hgk]
          by_cases y : rh_and (M (x + 1) k) 255 < 128
          · rw [rh_if_t y, if_pos y, if_pos (by decide)]; rfl
          · rw [rh_if_f y, if_neg y, if_neg (by decide)]; rfl
        refine ⟨⟨by omega, by omega⟩, by rw [hv]; split <;> exact ⟨by decide, by decide⟩, ⟨by omega, by omega⟩, ih _ (by omega) (k + 1) _ rfl (by omega) (by omega) (f.st (.inr rfl)) (by rw [rh_set_a (by decide), s1]) (by rw [rh_set_a (by decide), s2]) (fun j j0 j1 => ?_)⟩
        by_cases e : j = k
        · rw [e, rh_set_s]; exact hv
        · rw [rh_set_j e]; exact hj j j0 (by omega)
      · have hj' : ∀ u v, 0 ≤ u → u < W → 0 ≤ v → v < H → M' 9 (W * v + u) = if g u v ≠ 0 then 0 else -1 := fun u v u0 u1 v0 v1 => by
          have ib := ix_b u0 u1 v0 v1
          have dx := dm_x (v := v) u0 u1
          rw [hj _ ib.1 (by omega), dx.1, dx.2]
        have key2 : ∀ (vq : Nat) (y : Int) (M2 : rhM), (H - y).toNat = vq → (0 ≤ y) → (y ≤ H) → (frx (fun c _ => c = 8 ∨ c = 9) M M2) → (M2 8 1 = W) → (M2 8 2 = H) → (∀ u v, 0 ≤ u → u < W → 0 ≤ v → v < H → (v < y → M2 9 (W * v + u) = if rowf p W g u v ≠ 0 then 0 else -1) ∧ (y ≤ v → M2 9 (W * v + u) = if g u v ≠ 0 then 0 else -1)) → rh1 wh YX30_smear 2 57 [(0, 2, x), (1, 0, p), (2, 0, q), (3, 2, 8), (4, 0, y)] [] M2 (fun r M' => r = 0 ∧ frx (fun c _ => c = 8 ∨ c = 9) M M' ∧ M' 8 1 = W ∧ M' 8 2 = H ∧ ∀ u v, 0 ≤ u → u < W → 0 ≤ v → v < H → M' 9 (W * v + u) = if colf q H (rowf p W g) u v ≠ 0 then 0 else -1) := by
          intro vq
          induction vq using Nat.strongRecOn with
          | ind vq ih2 =>
            intro y M2 hvq y0 y1 f2 t1 t2 h2
            replace h2 := Hid.mk h2
            refine rh1.of (rX30_smear_57 hh _ _ _ _ _ _ hx (hs_sh hh) ?_)
            rw [f2 x 1 (by omega), hW, f2 x 2 (by omega), hH]
            refine ⟨fun c => ?_, fun c => ?_⟩
            · have ib := ix_b (W := W) (H := H) (x := 0) (y := y) (by omega) (by omega) y0 c
              refine rh1.s (eS.fx 3 (x := W * y) rfl ⟨by omega, by omega⟩ rfl) ?_
              obtain ⟨r, M3, E3, -, f3, h3⟩ := c_fillAlong hh (hs_sh hh) (a := W * y) (b := 1) (n := W) (gap := p) (f0 := fun u => g u y) M2 (by omega) ⟨by omega, by omega⟩ hp (fun j j0 j1 => by have := ix_b (W := W) (H := H) j0 j1 y0 c; rw [Int.one_mul]; exact ⟨by omega, by omega⟩) (fun j j0 j1 => by rw [Int.one_mul]; exact (h2.out j y j0 j1 y0 c).2 (Int.le_refl y))
              refine rh1.s (vX30_smear_80 E3 (LE0 rfl)) ?_
              refine rh1.of (rX30_smear_83 hh _ _ _ _ _ _ hx (hs_sh hh) ?_)
              refine ⟨⟨by omega, by omega⟩, ih2 _ (by omega) (y + 1) M3 rfl (by omega) (by omega) (f2.tr (f3.w (fun c j h => .inr h.1))) (by rw [f3 _ _ (fun z => by omega), t1]) (by rw [f3 _ _ (fun z => by omega), t2]) (fun u v u0 u1 v0 v1 => ?_)⟩
              by_cases e : v = y
              · subst e
                refine ⟨fun _ => ?_, fun z => by omega⟩
                have := h3 u u0 u1
                rw [Int.one_mul] at this
                exact this
              · have hn : M3 9 (W * v + u) = M2 9 (W * v + u) := f3 _ _ (fun z => by
                  obtain ⟨-, w, w0, w1⟩ := z
                  rw [Int.one_mul] at w1
                  exact ix_ne u0 u1 w0.1 w0.2 (fun z => e z.2) w1)
                rw [hn]
                have := h2.out u v u0 u1 v0 v1
                exact ⟨fun z => this.1 (by omega), fun z => this.2 (by omega)⟩
            · have h2' : ∀ u v, 0 ≤ u → u < W → 0 ≤ v → v < H → M2 9 (W * v + u) = if rowf p W g u v ≠ 0 then 0 else -1 := fun u v u0 u1 v0 v1 => (h2.out u v u0 u1 v0 v1).1 (by omega)
              have key3 : ∀ (vq : Nat) (z : Int) (M3 : rhM), (W - z).toNat = vq → (0 ≤ z) → (z ≤ W) → (frx (fun c _ => c = 8 ∨ c = 9) M M3) → (M3 8 1 = W) → (M3 8 2 = H) → (∀ u v, 0 ≤ u → u < W → 0 ≤ v → v < H → (u < z → M3 9 (W * v + u) = if colf q H (rowf p W g) u v ≠ 0 then 0 else -1) ∧ (z ≤ u → M3 9 (W * v + u) = if rowf p W g u v ≠ 0 then 0 else -1)) → rh1 wh YX30_smear 2 92 [(0, 2, x), (2, 0, q), (3, 2, 8), (4, 0, z)] [] M3 (fun r M' => r = 0 ∧ frx (fun c _ => c = 8 ∨ c = 9) M M' ∧ M' 8 1 = W ∧ M' 8 2 = H ∧ ∀ u v, 0 ≤ u → u < W → 0 ≤ v → v < H → M' 9 (W * v + u) = if colf q H (rowf p W g) u v ≠ 0 then 0 else -1) := by
                intro vq
                induction vq using Nat.strongRecOn with
                | ind vq ih3 =>
                  intro z M3 hvq z0 z1 f3 t3 t4 h3
                  replace h3 := Hid.mk h3
                  refine rh1.of (rX30_smear_92 hh _ _ _ _ _ hx (hs_sh hh) ?_)
                  rw [f3 x 1 (by omega), hW, f3 x 2 (by omega), hH]
                  refine ⟨fun c => ?_, fun c => ⟨rfl, f3, t3, t4, fun u v u0 u1 v0 v1 => (h3.out u v u0 u1 v0 v1).1 (by omega)⟩⟩
                  obtain ⟨r, M4, E4, -, f4, h4⟩ := c_fillAlong hh (hs_sh hh) (a := z) (b := W) (n := H) (gap := q) (f0 := fun v => rowf p W g z v) M3 (by omega) ⟨by omega, by omega⟩ hq (fun j j0 j1 => by have := ix_b (W := W) (H := H) z0 c j0 j1; exact ⟨by omega, by omega⟩) (fun j j0 j1 => by rw [Int.add_comm z]; exact (h3.out z j z0 c j0 j1).2 (Int.le_refl z))
                  refine rh1.s (vX30_smear_113 E4 (LE0 rfl)) ?_
                  refine rh1.of (rX30_smear_116 hh _ _ _ _ _ hx (hs_sh hh) ?_)
                  refine ⟨⟨by omega, by omega⟩, ih3 _ (by omega) (z + 1) M4 rfl (by omega) (by omega) (f3.tr (f4.w (fun c j h => .inr h.1))) (by rw [f4 _ _ (fun z => by omega), t3]) (by rw [f4 _ _ (fun z => by omega), t4]) (fun u v u0 u1 v0 v1 => ?_)⟩
                  by_cases e : u = z
                  · subst e
                    refine ⟨fun _ => ?_, fun z => by omega⟩
                    have := h4 v v0 v1
                    rw [Int.add_comm u] at this
                    exact this
                  · have hn : M4 9 (W * v + u) = M3 9 (W * v + u) := f4 _ _ (fun y => by
                      obtain ⟨-, w, w0, w1⟩ := y
                      rw [Int.add_comm z] at w1
                      exact ix_ne u0 u1 z0 c (fun y => e y.1) w1)
                    rw [hn]
                    have := h3.out u v u0 u1 v0 v1
                    exact ⟨fun y => this.1 (by omega), fun y => this.2 (by omega)⟩
              exact key3 _ 0 M2 rfl (by omega) (by omega) f2 t1 t2 (fun u v u0 u1 v0 v1 => ⟨fun z => by omega, fun _ => h2' u v u0 u1 v0 v1⟩)
        exact key2 _ 0 M' rfl (by omega) hH0 f s1 s2 (fun u v u0 u1 v0 v1 => ⟨fun z => by omega, fun _ => hj' u v u0 u1 v0 v1⟩)
  exact key _ 0 _ rfl (by omega) hN0 ((frx.rf.st (.inl rfl)).st (.inl rfl)) (by simp [rh_sets]) (by simp [rh_sets]) (fun j j0 j1 => by omega)
end SmearH
