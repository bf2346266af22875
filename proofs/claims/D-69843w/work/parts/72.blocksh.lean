/-! ===== LAYER 2: findBlocks, the house ===== -/
section BlocksH
variable {wh wm : rhW}
def min20 (c : Int) : Int := if c < 20 then c else 20
theorem c_findBlocksH (hh : rh_hs wh) {x y W H : Int} (hx : rh_bl wh 0 x 0) (hy : rh_bl wh 1 y 0) (hy2 : y = x + 9) (hx2 : 100 ≤ x) (M : rhM) (hW : M x 1 = W) (hH : M x 2 = H) (hW0 : 0 < W) (hWb : W ≤ 128) (hHb : H ≤ 96) (hN0 : 0 ≤ W * H) (hN : W * H ≤ 6144) (hc0 : 0 ≤ M 10 4) (hl : ∀ k, 0 ≤ k → k < W * H → -1 ≤ M 11 k) :
    rC1 wh YX30_findBlocks 1 [(2, y), (2, x), (2, 10)] M (fun r M' => r = 0 ∧ frx (fun c j => (c = y ∧ j = 1) ∨ (y + 1 ≤ c ∧ c ≤ y + 4) ∨ c = y + 6) M M' ∧ M' y 1 = min20 (M 10 4) ∧ ∀ i, 0 ≤ i → i < min20 (M 10 4) → M' (y + 1) i = lst (· % W) (M 11) i 128 (W * H).toNat ∧ M' (y + 2) i = lst (· / W) (M 11) i 96 (W * H).toNat ∧ M' (y + 3) i = gst (fun k => k % W + 1) (M 11) i 0 (W * H).toNat ∧ M' (y + 4) i = gst (fun k => k / W + 1) (M 11) i 0 (W * H).toNat ∧ M' (y + 6) i = 0) := by
  subst hy2
  refine rC1.of (by decide) (LE0 rfl) ?_
  refine rh1.of (rX30_findBlocks_0 hh _ _ _ hy hx ?_)
  intro n en
  have en2 : n = min20 (M 10 4) := by rw [en, rh_ifd]; rfl
  have nb : 0 ≤ n ∧ n ≤ 20 := by rw [en2]; unfold min20; split <;> omega
  rw [← en2]
  replace hl := Hid.mk hl
  have key : ∀ (vq : Nat) (i : Int) (M' : rhM), (n - i).toNat = vq → (0 ≤ i) → (i ≤ n) → (frx (fun c j => (c = x + 9 ∧ j = 1) ∨ (x + 9 + 1 ≤ c ∧ c ≤ x + 9 + 4) ∨ c = x + 9 + 6) M M') → (M' (x + 9) 1 = n) → (∀ j, 0 ≤ j → j < i → M' (x + 9 + 1) j = 128 ∧ M' (x + 9 + 2) j = 96 ∧ M' (x + 9 + 3) j = 0 ∧ M' (x + 9 + 4) j = 0 ∧ M' (x + 9 + 6) j = 0) → rh1 wh YX30_findBlocks 1 15 [(0, 2, x + 9), (1, 2, x), (2, 2, 10), (3, 0, i)] [] M' (fun r M' => r = 0 ∧ frx (fun c j => (c = x + 9 ∧ j = 1) ∨ (x + 9 + 1 ≤ c ∧ c ≤ x + 9 + 4) ∨ c = x + 9 + 6) M M' ∧ M' (x + 9) 1 = n ∧ ∀ i, 0 ≤ i → i < n → M' (x + 9 + 1) i = lst (· % W) (M 11) i 128 (W * H).toNat ∧ M' (x + 9 + 2) i = lst (· / W) (M 11) i 96 (W * H).toNat ∧ M' (x + 9 + 3) i = gst (fun k => k % W + 1) (M 11) i 0 (W * H).toNat ∧ M' (x + 9 + 4) i = gst (fun k => k / W + 1) (M 11) i 0 (W * H).toNat ∧ M' (x + 9 + 6) i = 0) := by
    intro vq
    induction vq using Nat.strongRecOn with
    | ind vq ih =>
      intro i M' hvq i0 i1 f h1 hj
      refine rh1.of (rX30_findBlocks_15 hh _ _ _ _ hy hx ?_)
      rw [h1]
      refine ⟨fun c => ⟨⟨by omega, by omega⟩, ⟨by omega, by omega⟩, ⟨by omega, by omega⟩, ⟨by omega, by omega⟩, ⟨by omega, by omega⟩, ⟨by omega, by omega⟩, ih _ (by omega) (i + 1) _ rfl (by omega) (by omega) (((((f.st (by omega)).st (by omega)).st (by omega)).st (by omega)).st (by omega)) ?_ (fun j j0 j1 => ?_)⟩, fun c => ?_⟩
      · rw [rh_set_a (by omega), rh_set_a (by omega), rh_set_a (by omega), rh_set_a (by omega), rh_set_a (by omega), h1]
      · by_cases q : j = i
        · have a1 : ¬ (x + 9 + 1 = x + 9 + 2) := (by omega)
          rw [q]; simp [rh_sets]
        · simp only [rh_set_j q]; exact hj j j0 (by omega)
      · have key2 : ∀ (vq : Nat) (k : Nat) (M2 : rhM), (W * H - k).toNat = vq → ((k : Int) ≤ W * H) → (frx (fun c j => (c = x + 9 ∧ j = 1) ∨ (x + 9 + 1 ≤ c ∧ c ≤ x + 9 + 4) ∨ c = x + 9 + 6) M M2) → (M2 (x + 9) 1 = n) → (∀ i, 0 ≤ i → i < n → M2 (x + 9 + 1) i = lst (· % W) (M 11) i 128 k ∧ M2 (x + 9 + 2) i = lst (· / W) (M 11) i 96 k ∧ M2 (x + 9 + 3) i = gst (fun k => k % W + 1) (M 11) i 0 k ∧ M2 (x + 9 + 4) i = gst (fun k => k / W + 1) (M 11) i 0 k ∧ M2 (x + 9 + 6) i = 0) → rh1 wh YX30_findBlocks 1 69 [(0, 2, x + 9), (1, 2, x), (2, 2, 10), (3, 0, (k : Int))] [] M2 (fun r M' => r = 0 ∧ frx (fun c j => (c = x + 9 ∧ j = 1) ∨ (x + 9 + 1 ≤ c ∧ c ≤ x + 9 + 4) ∨ c = x + 9 + 6) M M' ∧ M' (x + 9) 1 = n ∧ ∀ i, 0 ≤ i → i < n → M' (x + 9 + 1) i = lst (· % W) (M 11) i 128 (W * H).toNat ∧ M' (x + 9 + 2) i = lst (· / W) (M 11) i 96 (W * H).toNat ∧ M' (x + 9 + 3) i = gst (fun k => k % W + 1) (M 11) i 0 (W * H).toNat ∧ M' (x + 9 + 4) i = gst (fun k => k / W + 1) (M 11) i 0 (W * H).toNat ∧ M' (x + 9 + 6) i = 0) := by
          intro vq
          induction vq using Nat.strongRecOn with
          | ind vq ih2 =>
            intro k M2 hvq k1 f2 h2 hq
            have w11 : M2 11 = M 11 := f2.cell (fun j => (by omega))
            have wx : ∀ j, M2 x j = M x j := fun j => f2 _ _ (by omega)
            have eK : ((k + 1 : Nat) : Int) = (k : Int) + 1 := (by omega)
            refine rh1.of (rX30_findBlocks_69 hh _ _ _ _ hy hx ?_)
            rw [wx, wx, hW, hH, w11, h2]
            refine ⟨⟨by omega, by omega⟩, fun c => ⟨⟨by omega, by omega⟩, fun z => ?_, fun z => ⟨⟨by omega, by omega⟩, ?_⟩⟩, fun c => ⟨rfl, f2, rfl, by rw [show (W * H).toNat = k by omega]; exact hq⟩⟩
            · have hlk := hl.out (k : Int) (by omega) c
              have db := dm_b hW0 (show (0 : Int) ≤ (k : Int) by omega) c
              generalize hg : M 11 (k : Int) = g at *
              have gb : 0 ≤ g ∧ g < 20 := ⟨by omega, by omega⟩
              obtain ⟨q1, q2, q3, q4, q5⟩ := hq g (by omega) z.2
              refine ⟨gb, ⟨by omega, by omega⟩, fun v0 e0 => ⟨gb, fun Ma ea => ?_⟩⟩
              have a1 : Ma x 1 = W := by rw [ea, rh_set_a (by omega), wx, hW]
              have a2 : Ma (x + 9 + 2) g = M2 (x + 9 + 2) g := by rw [ea, rh_set_a (by omega)]
              rw [a1, a2]
              refine ⟨gb, ⟨by omega, by omega⟩, fun v2 e2 => ⟨gb, fun Mb eb => ?_⟩⟩
              have b1 : Mb x 1 = W := by rw [eb, rh_set_a (by omega), a1]
              have b2 : Mb (x + 9 + 3) g = M2 (x + 9 + 3) g := by rw [eb, rh_set_a (by omega), ea, rh_set_a (by omega)]
              rw [b1, b2]
              refine ⟨gb, ⟨by omega, by omega⟩, ⟨by omega, by omega⟩, fun v4 e4 => ⟨gb, fun Mc ec => ?_⟩⟩
              have c1 : Mc x 1 = W := by rw [ec, rh_set_a (by omega), b1]
              have c2 : Mc (x + 9 + 4) g = M2 (x + 9 + 4) g := by rw [ec, rh_set_a (by omega), eb, rh_set_a (by omega), ea, rh_set_a (by omega)]
              rw [c1, c2]
              refine ⟨gb, ⟨by omega, by omega⟩, ⟨by omega, by omega⟩, fun v6 e6 => ⟨gb, ⟨by omega, by omega⟩, ?_⟩⟩
              rw [← eK]
              refine ih2 _ (by omega) (k + 1) _ rfl (by omega) ?_ ?_ (fun i i0 i1 => ?_)
              · rw [ec, eb, ea]; exact (((f2.st (by omega)).st (by omega)).st (by omega)).st (by omega)
              · rw [ec, eb, ea, rh_set_a (by omega), rh_set_a (by omega), rh_set_a (by omega), rh_set_a (by omega), h2]
              · simp only [lst, gst]
                rw [hg]
                by_cases e : i = g
                · subst e
                  have r1 : rh_set Mc (x + 9 + 4) i v6 (x + 9 + 1) i = v0 := by rw [rh_set_a (by omega), ec, rh_set_a (by omega), eb, rh_set_a (by omega), ea, rh_set_s]
                  have r2 : rh_set Mc (x + 9 + 4) i v6 (x + 9 + 2) i = v2 := by rw [rh_set_a (by omega), ec, rh_set_a (by omega), eb, rh_set_s]
                  have r3 : rh_set Mc (x + 9 + 4) i v6 (x + 9 + 3) i = v4 := by rw [rh_set_a (by omega), ec, rh_set_s]
                  have r6 : rh_set Mc (x + 9 + 4) i v6 (x + 9 + 6) i = 0 := by rw [rh_set_a (by omega), ec, rh_set_a (by omega), eb, rh_set_a (by omega), ea, rh_set_a (by omega), q5]
                  rw [r1, r2, r3, rh_set_s, r6, e0, e2, e4, e6, q1, q2, q3, q4, rh_ifd, rh_ifd, rh_ifd, rh_ifd]
                  simp
                · have hne : ¬ (g = i) := fun y => e y.symm
                  rw [if_neg (fun y => hne y.1), if_neg (fun y => hne y.1), if_neg (fun y => hne y.1), if_neg (fun y => hne y.1)]
                  rw [rh_set_j e, rh_set_j e, rh_set_j e, rh_set_j e, rh_set_j e, ec, rh_set_j e, rh_set_j e, rh_set_j e, rh_set_j e, rh_set_j e, eb, rh_set_j e, rh_set_j e, rh_set_j e, rh_set_j e, rh_set_j e, ea, rh_set_j e, rh_set_j e, rh_set_j e, rh_set_j e, rh_set_j e]
                  exact hq i i0 i1
            · rw [← eK]
              refine ih2 _ (by omega) (k + 1) M2 rfl (by omega) f2 h2 (fun i i0 i1 => ?_)
              have hne : M 11 (k : Int) ≠ i := fun e => z (by omega)
              simp only [lst, gst]
              rw [if_neg (fun y => hne y.1), if_neg (fun y => hne y.1), if_neg (fun y => hne y.1), if_neg (fun y => hne y.1)]
              exact hq i i0 i1
        exact key2 _ 0 M' rfl hN0 f h1 (fun j j0 j1 => hj j j0 (by omega))
  refine key _ 0 _ rfl (by omega) nb.1 (frx.rf.st (by omega)) (rh_set_s _ _ _ _) (fun j j0 j1 => by omega)
end BlocksH
