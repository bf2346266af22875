/-! ===== LAYER 2: findBlocks, the model ===== -/
section BlocksM
variable {wh wm : rhW}
abbrev Gbl (p c j : Int) : Prop := (c = 0 ∧ j = 19) ∨ c = 9 ∨ c = 10 ∨ (c = 24 ∧ j = p) ∨ ((c = 27 ∨ c = 28 ∨ c = 29 ∨ c = 30 ∨ c = 32) ∧ 20 * p ≤ j ∧ j < 20 * p + 20)
def BxM (M' : rhM) (lab : Int → Int) (p W n : Int) (k : Nat) : Prop := ∀ i, 0 ≤ i → i < n → M' 27 (20 * p + i) = lst (· % W) lab i 999 k ∧ M' 28 (20 * p + i) = lst (· / W) lab i 999 k ∧ M' 29 (20 * p + i) = gst (fun k => k % W + 1) lab i 0 k ∧ M' 30 (20 * p + i) = gst (fun k => k / W + 1) lab i 0 k ∧ M' 32 (20 * p + i) = 0
theorem c_findBlocksM (hm : rh_ms wm) {p W H : Int} (hp : 0 ≤ p ∧ p < 8) (M : rhM) (hW : M 0 17 = W) (hH : M 0 18 = H) (hW0 : 0 < W) (hWb : W ≤ 128) (hHb : H ≤ 96) (hN0 : 0 ≤ W * H) (hN : W * H ≤ 6144) :
    rC1 wm YX32_findBlocks 2 [(2, 0), (0, p)] M (fun r M' => r = 0 ∧ frx (Gbl p) M M' ∧ Lb W (W * H) (fun k => M 11 k = 1) True (M' 9) (M' 0 19) ∧ M' 0 19 ≤ W * H ∧ M' 24 p = min20 (M' 0 19) ∧ BxM M' (M' 9) p W (min20 (M' 0 19)) (W * H).toNat) := by
  refine rC1.of (by decide) (LE0 rfl) ?_
  refine rh1.of (rX32_findBlocks_0 hm _ _ ?_)
  obtain ⟨r, M0, E0, -, f0, L0, cb0⟩ := c_labelAll hm (b := 1) (eb := 1) M hW hH (show 0 ≤ W by omega) hWb hHb hN0 hN
  refine rh1.s (vX32_findBlocks_3 hm E0 (LE0 rfl)) ?_
  have L1 := L0.eight (E' := True) (by simp)
  have hl := Hid.mk L1.1
  have hc0 := L1.2.2.2.2.2
  replace L1 := Hid.mk L1
  clear L0
  have f0' : frx (Gbl p) M M0 := f0.w (fun a j h => by omega)
  have hW' : M0 0 17 = W := by rw [f0' 0 17 (by omega), hW]
  have hH' : M0 0 18 = H := by rw [f0' 0 18 (by omega), hH]
  clear f0
  refine rh1.of (rX32_findBlocks_6 hm _ _ ?_)
  intro n en
  have en2 : n = min20 (M0 0 19) := by rw [en, rh_ifd]; rfl
  have nb : 0 ≤ n ∧ n ≤ 20 := by rw [en2]; unfold min20; split <;> omega
  refine ⟨hp, ?_⟩
  have key : ∀ (vq : Nat) (i : Int) (M' : rhM), (n - i).toNat = vq → (0 ≤ i) → (i ≤ n) → (frx (Gbl p) M M') → (M' 9 = M0 9) → (M' 0 19 = M0 0 19) → (M' 24 p = n) → (BxM M' (M0 9) p W i 0) → rh1 wm YX32_findBlocks 2 25 [(0, 2, 0), (1, 0, p), (2, 0, n), (3, 0, i)] [] M' (fun r M' => r = 0 ∧ frx (Gbl p) M M' ∧ Lb W (W * H) (fun k => M 11 k = 1) True (M' 9) (M' 0 19) ∧ M' 0 19 ≤ W * H ∧ M' 24 p = min20 (M' 0 19) ∧ BxM M' (M' 9) p W (min20 (M' 0 19)) (W * H).toNat) := by
    intro vq
    induction vq using Nat.strongRecOn with
    | ind vq ih =>
      intro i M' hvq i0 i1 f g9 g19 h1 hj
      refine rh1.of (rX32_findBlocks_25 hm _ _ _ _ ?_)
      refine ⟨fun c => ⟨⟨by omega, by omega⟩, ⟨by omega, by omega⟩, ⟨by omega, by omega⟩, ⟨by omega, by omega⟩, ⟨by omega, by omega⟩, ⟨by omega, by omega⟩, ih _ (by omega) (i + 1) _ rfl (by omega) (by omega) (((((f.st (by omega)).st (by omega)).st (by omega)).st (by omega)).st (by omega)) ?_ ?_ ?_ (fun j j0 j1 => ?_)⟩, fun c => ?_⟩
      · rw [rh_set_n (by omega), rh_set_n (by omega), rh_set_n (by omega), rh_set_n (by omega), rh_set_n (by omega), g9]
      · rw [rh_set_a (by omega), rh_set_a (by omega), rh_set_a (by omega), rh_set_a (by omega), rh_set_a (by omega), g19]
      · rw [rh_set_a (by omega), rh_set_a (by omega), rh_set_a (by omega), rh_set_a (by omega), rh_set_a (by omega), h1]
      · by_cases q : j = i
        · rw [q]; simp [rh_sets, lst, gst]
        · have q2 : 20 * p + j ≠ 20 * p + i := (by omega)
          simp only [rh_set_j q2]; exact hj j j0 (by omega)
      · have key2 : ∀ (vq : Nat) (k : Nat) (M2 : rhM), (W * H - k).toNat = vq → ((k : Int) ≤ W * H) → (frx (Gbl p) M M2) → (M2 9 = M0 9) → (M2 0 19 = M0 0 19) → (M2 24 p = n) → (BxM M2 (M0 9) p W n k) → rh1 wm YX32_findBlocks 2 102 [(0, 2, 0), (1, 0, p), (2, 0, n), (3, 0, (k : Int))] [] M2 (fun r M' => r = 0 ∧ frx (Gbl p) M M' ∧ Lb W (W * H) (fun k => M 11 k = 1) True (M' 9) (M' 0 19) ∧ M' 0 19 ≤ W * H ∧ M' 24 p = min20 (M' 0 19) ∧ BxM M' (M' 9) p W (min20 (M' 0 19)) (W * H).toNat) := by
          intro vq
          induction vq using Nat.strongRecOn with
          | ind vq ih2 =>
            intro k M2 hvq k1 f2 g9 g19 h2 hq
            have wW : M2 0 17 = W := by rw [f2 0 17 (by omega), hW]
            have wH : M2 0 18 = H := by rw [f2 0 18 (by omega), hH]
            have eK : ((k + 1 : Nat) : Int) = (k : Int) + 1 := (by omega)
            refine rh1.of (rX32_findBlocks_102 hm _ _ _ _ ?_)
            rw [wW, wH, g9]
            refine ⟨⟨by omega, by omega⟩, fun c => ⟨⟨by omega, by omega⟩, fun z => ?_, fun z => ⟨⟨by omega, by omega⟩, ?_⟩⟩, fun c => ⟨rfl, f2, by rw [g19]; exact L1.out, by rw [g19]; exact cb0, by rw [h2, g19]; exact en2, by rw [g19, ← en2, show (W * H).toNat = k by omega]; exact hq⟩⟩
            · have hlk := hl.out (k : Int) ⟨(by omega), c⟩
              have db := dm_b hW0 (show (0 : Int) ≤ (k : Int) by omega) c
              generalize hg : M0 9 (k : Int) = g at *
              have gb : 0 ≤ g ∧ g < 20 := ⟨by omega, by omega⟩
              obtain ⟨q1, q2, q3, q4, q5⟩ := hq g (by omega) z.2
              intro q eq
              rw [← eq] at q1 q2 q3 q4 q5
              have qb : 0 ≤ q ∧ q < 160 := ⟨by omega, by omega⟩
              refine ⟨⟨by omega, by omega⟩, qb, ⟨by omega, by omega⟩, fun v0 e0 => ⟨qb, qb, ?_⟩⟩
              have a1 : rh_set M2 27 q v0 0 17 = W := by rw [rh_set_a (by omega), wW]
              have a2 : rh_set M2 27 q v0 28 q = M2 28 q := rh_set_a (by omega)
              rw [a1, a2]
              refine ⟨⟨by omega, by omega⟩, fun v2 e2 => ⟨qb, fun Mb eb => ?_⟩⟩
              have b1 : Mb 0 17 = W := by rw [eb, rh_set_a (by omega), a1]
              have b2 : Mb 29 q = M2 29 q := by rw [eb, rh_set_a (by omega), rh_set_a (by omega)]
              rw [b1, b2]
              refine ⟨qb, ⟨by omega, by omega⟩, ⟨by omega, by omega⟩, fun v4 e4 => ⟨qb, qb, ?_⟩⟩
              have c1 : rh_set Mb 29 q v4 0 17 = W := by rw [rh_set_a (by omega), b1]
              have c2 : rh_set Mb 29 q v4 30 q = M2 30 q := by rw [rh_set_a (by omega), eb, rh_set_a (by omega), rh_set_a (by omega)]
              rw [c1, c2]
              refine ⟨⟨by omega, by omega⟩, ⟨by omega, by omega⟩, fun v6 e6 => ⟨qb, ⟨by omega, by omega⟩, ?_⟩⟩
              rw [← eK]
              refine ih2 _ (by omega) (k + 1) _ rfl (by omega) ?_ ?_ ?_ ?_ (fun i i0 i1 => ?_)
              · rw [eb]; exact (((f2.st (by omega)).st (by omega)).st (by omega)).st (by omega)
              · rw [eb, rh_set_n (by omega), rh_set_n (by omega), rh_set_n (by omega), rh_set_n (by omega), g9]
              · rw [eb, rh_set_a (by omega), rh_set_a (by omega), rh_set_a (by omega), rh_set_a (by omega), g19]
              · rw [eb, rh_set_a (by omega), rh_set_a (by omega), rh_set_a (by omega), rh_set_a (by omega), h2]
              · simp only [lst, gst]
                rw [hg]
                by_cases e : i = g
                · subst e
                  rw [← eq]
                  have r1 : rh_set (rh_set Mb 29 q v4) 30 q v6 27 q = v0 := by rw [rh_set_a (by omega), rh_set_a (by omega), eb, rh_set_a (by omega), rh_set_s]
                  have r2 : rh_set (rh_set Mb 29 q v4) 30 q v6 28 q = v2 := by rw [rh_set_a (by omega), rh_set_a (by omega), eb, rh_set_s]
                  have r3 : rh_set (rh_set Mb 29 q v4) 30 q v6 29 q = v4 := by rw [rh_set_a (by omega), rh_set_s]
                  have r6 : rh_set (rh_set Mb 29 q v4) 30 q v6 32 q = 0 := by rw [rh_set_a (by omega), rh_set_a (by omega), eb, rh_set_a (by omega), rh_set_a (by omega), q5]
                  rw [r1, r2, r3, rh_set_s, r6, e0, e2, e4, e6, q1, q2, q3, q4, rh_ifd, rh_ifd, rh_ifd, rh_ifd]
                  refine ⟨?_, ?_, ?_, ?_, rfl⟩
                  · exact mn_lst i
                  · exact mn_lst i
                  · exact mx_gst i
                  · exact mx_gst i
                · have hne : ¬ (g = i) := fun y => e y.symm
                  rw [if_neg (fun y => hne y.1), if_neg (fun y => hne y.1), if_neg (fun y => hne y.1), if_neg (fun y => hne y.1)]
                  have e : 20 * p + i ≠ q := (by omega)
                  rw [rh_set_j e, rh_set_j e, rh_set_j e, rh_set_j e, rh_set_j e, rh_set_j e, rh_set_j e, rh_set_j e, rh_set_j e, rh_set_j e, eb, rh_set_j e, rh_set_j e, rh_set_j e, rh_set_j e, rh_set_j e, rh_set_j e, rh_set_j e, rh_set_j e, rh_set_j e, rh_set_j e]
                  exact hq i i0 i1
            · rw [← eK]
              refine ih2 _ (by omega) (k + 1) M2 rfl (by omega) f2 g9 g19 h2 (fun i i0 i1 => ?_)
              have hlk := hl.out (k : Int) ⟨(by omega), c⟩
              have hne : M0 9 (k : Int) ≠ i := fun e => z (by omega)
              simp only [lst, gst]
              rw [if_neg (fun y => hne y.1), if_neg (fun y => hne y.1), if_neg (fun y => hne y.1), if_neg (fun y => hne y.1)]
              exact hq i i0 i1
        exact key2 _ 0 M' rfl hN0 f g9 g19 h1 (fun j j0 j1 => hj j j0 (by omega))
  refine key _ 0 _ rfl (by omega) nb.1 (f0'.st (by omega)) (rh_set_n (by omega)) (rh_set_a (by omega)) (rh_set_s _ _ _ _) (fun j j0 j1 => by omega)
end BlocksM
