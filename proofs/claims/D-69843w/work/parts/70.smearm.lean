/-! ===== LAYER 2: smear, the model ===== -/
section SmearM
variable {wh wm : rhW}
theorem c_smearM (hm : rh_ms wm) {p q W H : Int} (M : rhM) (hW : M 0 17 = W) (hH : M 0 18 = H) (hW0 : 0 < W) (hWb : W ≤ 128) (hH0 : 0 ≤ H) (hHb : H ≤ 96) (hN0 : 0 ≤ W * H) (hN : W * H ≤ 6144) (hp : 1 ≤ p ∧ p ≤ 60) (hq : 1 ≤ q ∧ q ≤ 60) {g : Int → Int → Int} (hg : ∀ u v, 0 ≤ u → u < W → 0 ≤ v → v < H → M 11 (W * v + u) = g u v) :
    rC1 wm YX32_smear 0 [(2, 0), (0, p), (0, q)] M (fun r M' => r = 0 ∧ frx (fun c _ => c = 11) M M' ∧ ∀ u v, 0 ≤ u → u < W → 0 ≤ v → v < H → M' 11 (W * v + u) = colf q H (rowf p W g) u v) := by
  refine rC1.of (by decide) (LE0 rfl) ?_
  refine rh1.of (rX32_smear_0 hm _ _ _ ?_)
  rw [hW, hH]
  have keya : ∀ (vq : Nat) (y : Int) (M1 : rhM), (H - y).toNat = vq → (0 ≤ y) → (y ≤ H) → (frx (fun c _ => c = 11) M M1) → (∀ u v, 0 ≤ u → u < W → 0 ≤ v → v < H → (v < y → M1 11 (W * v + u) = (rowf p W g) u v) ∧ (y ≤ v → M1 11 (W * v + u) = g u v)) → rh1 wm YX32_smear 0 14 [(0, 2, 0), (1, 0, p), (2, 0, q), (3, 0, W), (4, 0, H), (5, 0, y)] [] M1 (fun r M' => r = 0 ∧ frx (fun c _ => c = 11) M M' ∧ ∀ u v, 0 ≤ u → u < W → 0 ≤ v → v < H → M' 11 (W * v + u) = colf q H (rowf p W g) u v) := by
    intro vq
    induction vq using Nat.strongRecOn with
    | ind vq iha =>
      intro y M1 hvq y0 y1 f hj
      replace hj := Hid.mk hj
      refine rh1.of (rX32_smear_14 hm _ _ _ _ _ _ ?_)
      refine ⟨fun c => ?_, fun c => ?_⟩
      · have keyta : ∀ (vq : Nat) (k : Nat) (M2 : rhM), (W - k).toNat = vq → ((k : Int) ≤ W) → (frx (fun c _ => c = 11) M M2) → (∀ u v, 0 ≤ u → u < W → 0 ≤ v → v < H → (v < y → M2 11 (W * v + u) = rowf p W g u v) ∧ (v = y → M2 11 (W * v + u) = (flp p (fun u => g u y) k).2 u) ∧ (y < v → M2 11 (W * v + u) = g u v)) → rh1 wm YX32_smear 0 27 [(0, 2, 0), (1, 0, p), (2, 0, q), (3, 0, W), (4, 0, H), (5, 0, y), (6, 0, (flp p (fun u => g u y) k).1), (7, 0, (k : Int))] [] M2 (fun r M' => r = 0 ∧ frx (fun c _ => c = 11) M M' ∧ ∀ u v, 0 ≤ u → u < W → 0 ≤ v → v < H → M' 11 (W * v + u) = colf q H (rowf p W g) u v) := by
          intro vq
          induction vq using Nat.strongRecOn with
          | ind vq ihta =>
            intro k M2 hvq k1 f2 h2
            replace h2 := Hid.mk h2
            obtain ⟨b1, b2, -⟩ := flp_b p (fun u => g u y) k
            have b3 : (flp p (fun u => g u y) k).1 + 1 ≤ (k : Int) := by
              by_cases e : k = 0
              · rw [if_pos e] at b2; omega
              · rw [if_neg e] at b2; omega
            clear b2
            refine rh1.of (rX32_smear_27 hm _ _ _ _ _ _ _ _ ?_)
            refine ⟨fun c2 => ?_, fun c2 => ⟨⟨by omega, by omega⟩, iha _ (by omega) (y + 1) M2 rfl (by omega) (by omega) f2 (fun u v u0 u1 v0 v1 => ?_)⟩⟩
            · have ib := ix_b (W := W) (H := H) (x := (k : Int)) (y := y) (by omega) (by omega) (by omega) (by omega)
              have hv := (h2.out (k : Int) y (by omega) (by omega) (by omega) (by omega)).2.1 rfl
              rw [Int.mul_comm y]
              rw [hv]
              refine ⟨⟨by omega, by omega⟩, fun z => ⟨⟨by omega, by omega⟩, ?_⟩, fun z => ⟨⟨by omega, by omega⟩, ?_⟩⟩
              · generalize hlast : (flp p (fun u => g u y) k).1 = last at *
                have hnx : flp p (fun u => g u y) (k + 1) = ((k : Int), fun j => if (last ≠ -1 ∧ (k : Int) - last - 1 < p) ∧ (last < j ∧ j < k) then 1 else (flp p (fun u => g u y) k).2 j) := by
                  rw [flp, if_pos z, hlast]
                have keyma : ∀ (vq : Nat) (m : Int) (M3 : rhM), ((k : Int) - m).toNat = vq → (last + 1 ≤ m) → (m ≤ (k : Int)) → (frx (fun c _ => c = 11) M M3) → (∀ u v, 0 ≤ u → u < W → 0 ≤ v → v < H → (v < y → M3 11 (W * v + u) = rowf p W g u v) ∧ (v = y → M3 11 (W * v + u) = (if (last ≠ -1 ∧ (k : Int) - last - 1 < p) ∧ (last < u ∧ u < m) then 1 else (flp p (fun u => g u y) k).2 u)) ∧ (y < v → M3 11 (W * v + u) = g u v)) → rh1 wm YX32_smear 0 54 [(0, 2, 0), (1, 0, p), (2, 0, q), (3, 0, W), (4, 0, H), (5, 0, y), (6, 0, last), (7, 0, (k : Int)), (8, 0, m)] [] M3 (fun r M' => r = 0 ∧ frx (fun c _ => c = 11) M M' ∧ ∀ u v, 0 ≤ u → u < W → 0 ≤ v → v < H → M' 11 (W * v + u) = colf q H (rowf p W g) u v) := by
                  intro vq
                  induction vq using Nat.strongRecOn with
                  | ind vq ihma =>
                    intro m M3 hvq m0 m1 f3 h3
                    replace h3 := Hid.mk h3
                    refine rh1.of (rX32_smear_54 hm _ _ _ _ _ _ _ _ _ ?_)
                    refine ⟨fun _ _ => ⟨by omega, by omega⟩, fun w => ?_, fun w => ⟨⟨by omega, by omega⟩, ?_⟩⟩
                    · have im := ix_b (W := W) (H := H) (x := m) (y := y) (by omega) (by omega) (by omega) (by omega)
                      rw [Int.mul_comm y]
                      refine ⟨⟨by omega, by omega⟩, ⟨by omega, by omega⟩, ihma _ (by omega) (m + 1) _ rfl (by omega) (by omega) (f3.st rfl) (fun u v u0 u1 v0 v1 => ?_)⟩
                      obtain ⟨g1, g2, g3⟩ := h3.out u v u0 u1 v0 v1
                      by_cases e : u = m ∧ v = y
                      · rw [e.1, e.2, rh_set_s]
                        refine ⟨fun a => by omega, fun _ => by rw [if_pos ⟨⟨w.2.1, w.2.2⟩, ⟨by omega, by omega⟩⟩], fun a => by omega⟩
                      · rw [rh_set_j (ix_ne u0 u1 (by omega) (by omega) e)]
                        refine ⟨g1, fun a => ?_, g3⟩
                        rw [g2 a]
                        refine ite_congr (propext (and_congr Iff.rfl ?_)) (fun _ => rfl) (fun _ => rfl)
                        omega
                    · have := ihta _ (by omega) (k + 1) M3 rfl (by omega) f3 (fun u v u0 u1 v0 v1 => ?_)
                      · rw [hnx] at this
                        exact this
                      · obtain ⟨g1, g2, g3⟩ := h3.out u v u0 u1 v0 v1
                        refine ⟨g1, fun a => ?_, g3⟩
                        rw [g2 a, hnx]
                        refine ite_congr (propext (and_congr_right (fun a1 => ?_))) (fun _ => rfl) (fun _ => rfl)
                        by_cases w2 : m < (k : Int)
                        · exact absurd ⟨w2, a1.1, a1.2⟩ w
                        · omega
                refine keyma _ (last + 1) M2 rfl (by omega) (by omega) f2 (fun u v u0 u1 v0 v1 => ?_)
                obtain ⟨g1, g2, g3⟩ := h2.out u v u0 u1 v0 v1
                exact ⟨g1, fun a => by rw [g2 a, if_neg (by omega)], g3⟩
              · have hnx : flp p (fun u => g u y) (k + 1) = flp p (fun u => g u y) k := by
                  rw [flp, if_neg z]
                have := ihta _ (by omega) (k + 1) M2 rfl (by omega) f2 (by rw [hnx]; exact h2.out)
                rw [hnx] at this
                exact this
            · obtain ⟨g1, g2, g3⟩ := h2.out u v u0 u1 v0 v1
              refine ⟨fun a => ?_, fun a => g3 (by omega)⟩
              by_cases e : v = y
              · rw [g2 e, ← e]
                show _ = (flp p _ W.toNat).2 u
                rw [show W.toNat = k by omega]
              · exact g1 (by omega)
        refine keyta _ 0 M1 rfl (by omega) f (fun u v u0 u1 v0 v1 => ?_)
        have := hj.out u v u0 u1 v0 v1
        exact ⟨fun a => this.1 a, fun a => by rw [this.2 (by omega), ← a]; rfl, fun a => this.2 (by omega)⟩
      · have hR : ∀ u v, 0 ≤ u → u < W → 0 ≤ v → v < H → M1 11 (W * v + u) = rowf p W g u v := fun u v u0 u1 v0 v1 => (hj.out u v u0 u1 v0 v1).1 (by omega)
        have keyb : ∀ (vq : Nat) (y : Int) (M1 : rhM), (W - y).toNat = vq → (0 ≤ y) → (y ≤ W) → (frx (fun c _ => c = 11) M M1) → (∀ u v, 0 ≤ u → u < W → 0 ≤ v → v < H → (u < y → M1 11 (W * v + u) = (colf q H (rowf p W g)) u v) ∧ (y ≤ u → M1 11 (W * v + u) = rowf p W g u v)) → rh1 wm YX32_smear 0 116 [(0, 2, 0), (2, 0, q), (3, 0, W), (4, 0, H), (5, 0, y)] [] M1 (fun r M' => r = 0 ∧ frx (fun c _ => c = 11) M M' ∧ ∀ u v, 0 ≤ u → u < W → 0 ≤ v → v < H → M' 11 (W * v + u) = colf q H (rowf p W g) u v) := by
          intro vq
          induction vq using Nat.strongRecOn with
          | ind vq ihb =>
            intro y M1 hvq y0 y1 f hj
            replace hj := Hid.mk hj
            refine rh1.of (rX32_smear_116 hm _ _ _ _ _ ?_)
            refine ⟨fun c => ?_, fun c => ?_⟩
            · have keytb : ∀ (vq : Nat) (k : Nat) (M2 : rhM), (H - k).toNat = vq → ((k : Int) ≤ H) → (frx (fun c _ => c = 11) M M2) → (∀ u v, 0 ≤ u → u < W → 0 ≤ v → v < H → (u < y → M2 11 (W * v + u) = colf q H (rowf p W g) u v) ∧ (u = y → M2 11 (W * v + u) = (flp q (fun v => rowf p W g y v) k).2 v) ∧ (y < u → M2 11 (W * v + u) = rowf p W g u v)) → rh1 wm YX32_smear 0 128 [(0, 2, 0), (2, 0, q), (3, 0, W), (4, 0, H), (5, 0, y), (6, 0, (flp q (fun v => rowf p W g y v) k).1), (7, 0, (k : Int))] [] M2 (fun r M' => r = 0 ∧ frx (fun c _ => c = 11) M M' ∧ ∀ u v, 0 ≤ u → u < W → 0 ≤ v → v < H → M' 11 (W * v + u) = colf q H (rowf p W g) u v) := by
                intro vq
                induction vq using Nat.strongRecOn with
                | ind vq ihtb =>
                  intro k M2 hvq k1 f2 h2
                  replace h2 := Hid.mk h2
                  obtain ⟨b1, b2, -⟩ := flp_b q (fun v => rowf p W g y v) k
                  have b3 : (flp q (fun v => rowf p W g y v) k).1 + 1 ≤ (k : Int) := by
                    by_cases e : k = 0
                    · rw [if_pos e] at b2; omega
                    · rw [if_neg e] at b2; omega
                  clear b2
                  refine rh1.of (rX32_smear_128 hm _ _ _ _ _ _ _ ?_)
                  refine ⟨fun c2 => ?_, fun c2 => ⟨⟨by omega, by omega⟩, ihb _ (by omega) (y + 1) M2 rfl (by omega) (by omega) f2 (fun u v u0 u1 v0 v1 => ?_)⟩⟩
                  · have ib := ix_b (W := W) (H := H) (x := y) (y := (k : Int)) (by omega) (by omega) (by omega) (by omega)
                    have hv := (h2.out y (k : Int) (by omega) (by omega) (by omega) (by omega)).2.1 rfl
                    rw [Int.mul_comm (k : Int)]
                    rw [hv]
                    refine ⟨⟨by omega, by omega⟩, fun z => ⟨⟨by omega, by omega⟩, ?_⟩, fun z => ⟨⟨by omega, by omega⟩, ?_⟩⟩
                    · generalize hlast : (flp q (fun v => rowf p W g y v) k).1 = last at *
                      have hnx : flp q (fun v => rowf p W g y v) (k + 1) = ((k : Int), fun j => if (last ≠ -1 ∧ (k : Int) - last - 1 < q) ∧ (last < j ∧ j < k) then 1 else (flp q (fun v => rowf p W g y v) k).2 j) := by
                        rw [flp, if_pos z, hlast]
                      have keymb : ∀ (vq : Nat) (m : Int) (M3 : rhM), ((k : Int) - m).toNat = vq → (last + 1 ≤ m) → (m ≤ (k : Int)) → (frx (fun c _ => c = 11) M M3) → (∀ u v, 0 ≤ u → u < W → 0 ≤ v → v < H → (u < y → M3 11 (W * v + u) = colf q H (rowf p W g) u v) ∧ (u = y → M3 11 (W * v + u) = (if (last ≠ -1 ∧ (k : Int) - last - 1 < q) ∧ (last < v ∧ v < m) then 1 else (flp q (fun v => rowf p W g y v) k).2 v)) ∧ (y < u → M3 11 (W * v + u) = rowf p W g u v)) → rh1 wm YX32_smear 0 156 [(0, 2, 0), (2, 0, q), (3, 0, W), (4, 0, H), (5, 0, y), (6, 0, last), (7, 0, (k : Int)), (8, 0, m)] [] M3 (fun r M' => r = 0 ∧ frx (fun c _ => c = 11) M M' ∧ ∀ u v, 0 ≤ u → u < W → 0 ≤ v → v < H → M' 11 (W * v + u) = colf q H (rowf p W g) u v) := by
                        intro vq
                        induction vq using Nat.strongRecOn with
                        | ind vq ihmb =>
                          intro m M3 hvq m0 m1 f3 h3
                          replace h3 := Hid.mk h3
                          refine rh1.of (rX32_smear_156 hm _ _ _ _ _ _ _ _ ?_)
                          refine ⟨fun _ _ => ⟨by omega, by omega⟩, fun w => ?_, fun w => ⟨⟨by omega, by omega⟩, ?_⟩⟩
                          · have im := ix_b (W := W) (H := H) (x := y) (y := m) (by omega) (by omega) (by omega) (by omega)
                            rw [Int.mul_comm m]
                            refine ⟨⟨by omega, by omega⟩, ⟨by omega, by omega⟩, ihmb _ (by omega) (m + 1) _ rfl (by omega) (by omega) (f3.st rfl) (fun u v u0 u1 v0 v1 => ?_)⟩
                            obtain ⟨g1, g2, g3⟩ := h3.out u v u0 u1 v0 v1
                            by_cases e : u = y ∧ v = m
                            · rw [e.1, e.2, rh_set_s]
                              refine ⟨fun a => by omega, fun _ => by rw [if_pos ⟨⟨w.2.1, w.2.2⟩, ⟨by omega, by omega⟩⟩], fun a => by omega⟩
                            · rw [rh_set_j (ix_ne u0 u1 (by omega) (by omega) e)]
                              refine ⟨g1, fun a => ?_, g3⟩
                              rw [g2 a]
                              refine ite_congr (propext (and_congr Iff.rfl ?_)) (fun _ => rfl) (fun _ => rfl)
                              omega
                          · have := ihtb _ (by omega) (k + 1) M3 rfl (by omega) f3 (fun u v u0 u1 v0 v1 => ?_)
                            · rw [hnx] at this
                              exact this
                            · obtain ⟨g1, g2, g3⟩ := h3.out u v u0 u1 v0 v1
                              refine ⟨g1, fun a => ?_, g3⟩
                              rw [g2 a, hnx]
                              refine ite_congr (propext (and_congr_right (fun a1 => ?_))) (fun _ => rfl) (fun _ => rfl)
                              by_cases w2 : m < (k : Int)
                              · exact absurd ⟨w2, a1.1, a1.2⟩ w
                              · omega
                      refine keymb _ (last + 1) M2 rfl (by omega) (by omega) f2 (fun u v u0 u1 v0 v1 => ?_)
                      obtain ⟨g1, g2, g3⟩ := h2.out u v u0 u1 v0 v1
                      exact ⟨g1, fun a => by rw [g2 a, if_neg (by omega)], g3⟩
                    · have hnx : flp q (fun v => rowf p W g y v) (k + 1) = flp q (fun v => rowf p W g y v) k := by
                        rw [flp, if_neg z]
                      have := ihtb _ (by omega) (k + 1) M2 rfl (by omega) f2 (by rw [hnx]; exact h2.out)
                      rw [hnx] at this
                      exact this
                  · obtain ⟨g1, g2, g3⟩ := h2.out u v u0 u1 v0 v1
                    refine ⟨fun a => ?_, fun a => g3 (by omega)⟩
                    by_cases e : u = y
                    · rw [g2 e, ← e]
                      show _ = (flp q _ H.toNat).2 v
                      rw [show H.toNat = k by omega]
                    · exact g1 (by omega)
              refine keytb _ 0 M1 rfl (by omega) f (fun u v u0 u1 v0 v1 => ?_)
              have := hj.out u v u0 u1 v0 v1
              exact ⟨fun a => this.1 a, fun a => by rw [this.2 (by omega), ← a]; rfl, fun a => this.2 (by omega)⟩
            · exact ⟨rfl, f, fun u v u0 u1 v0 v1 => (hj.out u v u0 u1 v0 v1).1 (by omega)⟩
        exact keyb _ 0 M1 rfl (by omega) (by omega) f (fun u v u0 u1 v0 v1 => ⟨fun a => by omega, fun _ => hR u v u0 u1 v0 v1⟩)
  exact keya _ 0 M rfl (by omega) hH0 frx.rf (fun u v u0 u1 v0 v1 => ⟨fun a => by omega, fun _ => hg u v u0 u1 v0 v1⟩)
end SmearM
