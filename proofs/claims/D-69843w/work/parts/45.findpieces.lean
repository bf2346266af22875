/-! ===== LAYER 2: inkOf, findPieces ===== -/
section FindPieces
variable {wm : rhW}
theorem nct_z {f : Int → Int} {c : Int} {t : Nat} (h : nct f c t = 0) : ∀ j : Int, 0 ≤ j → j < t → f j ≠ c := fun j j0 j1 hj => by
  have := nct_pos j0 hj t j1
  omega
theorem psum_z {g lab : Int → Int} {i : Int} : ∀ t : Nat, (∀ j : Int, 0 ≤ j → j < t → lab j ≠ i) → psum g lab i t = 0
  | 0, _ => rfl
  | t + 1, h => by
    simp only [psum]
    rw [psum_z t (fun j a b => h j a (by omega)), if_neg (h t (by omega) (by omega))]
    omega
theorem c_inkOf (hm : rh_ms wm) {p : Int} (hp : 0 ≤ p ∧ p < 8) (M : rhM) (hN0 : 0 ≤ M 4 p * M 5 p) (hN : M 4 p * M 5 p ≤ 6144) :
    rC1 wm YX32_inkOf 0 [(2, 0), (0, p)] M (fun r M' => r = 0 ∧ frx (fun a j => (a = 0 ∧ (j = 17 ∨ j = 18)) ∨ a = 11) M M' ∧ M' 0 17 = M 4 p ∧ M' 0 18 = M 5 p ∧ ∀ k, 0 ≤ k ∧ k < M 4 p * M 5 p → M' 11 k = if M 3 (6144 * p + k) < 128 then 1 else 0) := by
  refine rC1.of (by decide) (LE0 rfl) ?_
  refine rh1.of (rX32_inkOf_0 hm _ _ ?_)
  refine ⟨hp, fun M1 e1 => ⟨hp, ?_⟩⟩
  have key : ∀ (v : Nat) (k : Int) (M' : rhM), (M 4 p * M 5 p - k).toNat = v → (0 ≤ k) → (k ≤ M 4 p * M 5 p) → (frx (fun a j => (a = 0 ∧ (j = 17 ∨ j = 18)) ∨ a = 11) M M') → (M' 0 17 = M 4 p) → (M' 0 18 = M 5 p) → (∀ j, 0 ≤ j ∧ j < k → M' 11 j = if M 3 (6144 * p + j) < 128 then 1 else 0) → rh1 wm YX32_inkOf 0 22 [(0, 2, 0), (1, 0, p), (2, 0, k)] [] M' (fun r M' => r = 0 ∧ frx (fun a j => (a = 0 ∧ (j = 17 ∨ j = 18)) ∨ a = 11) M M' ∧ M' 0 17 = M 4 p ∧ M' 0 18 = M 5 p ∧ ∀ k, 0 ≤ k ∧ k < M 4 p * M 5 p → M' 11 k = if M 3 (6144 * p + k) < 128 then 1 else 0) := by
    intro v
    induction v using Nat.strongRecOn with
    | ind v ih =>
      intro k M' hv k0 k1 f h1 h2 hk
      refine rh1.of (rX32_inkOf_22 hm _ _ _ ?_)
      rw [h1, h2, f 3 _ (by omega)]
      refine ⟨⟨by omega, by omega⟩, fun c => ⟨⟨by omega, by omega⟩, fun g eg => ⟨⟨by omega, by omega⟩, ?_, ⟨by omega, by omega⟩, ?_⟩⟩, fun c => ⟨rfl, f, rfl, rfl, fun j hj => hk j ⟨by omega, by omega⟩⟩⟩
      · rw [eg, rh_if]; split <;> omega
      · refine ih _ (by omega) (k + 1) _ rfl (by omega) (by omega) (f.st (.inr rfl)) (by rw [rh_set_a (by decide), h1]) (by rw [rh_set_a (by decide), h2]) (fun j hj => ?_)
        by_cases q : j = k
        · rw [q, rh_set_s, eg, rh_ifd]
        · rw [rh_set_j q]; exact hk j ⟨by omega, by omega⟩
  have a1 : M1 5 p = M 5 p := by rw [e1, rh_set_a (by decide)]
  refine key _ 0 _ rfl (by omega) hN0 ?_ ?_ ?_ (fun j hj => by omega)
  · rw [e1]; exact (frx.rf.st (by omega)).st (by omega)
  · rw [rh_set_j (by decide), e1, rh_set_s]
  · rw [rh_set_s, a1]
def mcol (M : rhM) (p : Int) : Int → Prop := fun k => M 3 (6144 * p + k) < 128
/-- what findPieces leaves -/
def PcM (M' : rhM) (W H : Int) (col : Int → Prop) : Prop := M' 0 17 = W ∧ M' 0 18 = H ∧ Lb W (W * H) col True (M' 9) (M' 0 19) ∧ M' 0 19 ≤ W * H ∧ M' 0 31 = min300 (M' 0 19) ∧
  ∀ i, 0 ≤ i → i < M' 0 31 → M' 15 i = nct (M' 9) i (W * H).toNat ∧ Pq W (W * H) (M' 9) i (M' 22 i) (M' 16 i) (M' 17 i) (M' 18 i) (M' 19 i) ∧ M' 20 i = psum (· % W) (M' 9) i (W * H).toNat ∧ M' 21 i = psum (· / W) (M' 9) i (W * H).toNat
theorem c_findPieces (hm : rh_ms wm) {p W H : Int} (hp : 0 ≤ p ∧ p < 8) (M : rhM) (hW : M 4 p = W) (hH : M 5 p = H) (hW0 : 0 ≤ W) (hWb : W ≤ 128) (hHb : H ≤ 96) (hN0 : 0 ≤ W * H) (hN : W * H ≤ 6144) :
    rC1 wm YX32_findPieces 2 [(2, 0), (0, p)] M (fun r M' => r = 0 ∧ frx (fun a j => (a = 0 ∧ (j = 17 ∨ j = 18 ∨ j = 19 ∨ j = 31)) ∨ (9 ≤ a ∧ a ≤ 11) ∨ (15 ≤ a ∧ a ≤ 22)) M M' ∧ (∀ k, 0 ≤ k ∧ k < W * H → M' 11 k = if M 3 (6144 * p + k) < 128 then 1 else 0) ∧ PcM M' W H (mcol M p)) := by
  refine rC1.of (by decide) (LE0 rfl) ?_
  refine rh1.of (rX32_findPieces_0 hm _ _ ?_)
  obtain ⟨r, M1, E1, -, f1, g1, g2, g3⟩ := c_inkOf hm hp M (by rw [hW, hH]; exact hN0) (by rw [hW, hH]; exact hN)
  rw [hW] at g1
  rw [hH] at g2
  rw [hW, hH] at g3
  refine rh1.s (vX32_findPieces_2 hm E1 (LE0 rfl)) ?_
  refine rh1.of (rX32_findPieces_5 hm _ ?_)
  obtain ⟨r, M2, E2, -, f2, L0, L2⟩ := c_labelAll hm (b := 1) (eb := 1) M1 g1 g2 hW0 hWb hHb hN0 hN
  have L1 : Lb W (W * H) (mcol M p) True (M2 9) (M2 0 19) := by
    refine (L0.cols (fun k hk => ?_)).eight (by simp)
    show M1 11 k = 1 ↔ M 3 (6144 * p + k) < 128
    rw [g3 k hk]
    split
    · rename_i h; exact ⟨fun _ => h, fun _ => rfl⟩
    · rename_i h; exact ⟨fun z => by omega, fun z => absurd z h⟩
  refine rh1.s (vX32_findPieces_8 hm E2 (LE0 rfl)) ?_
  refine rh1.of (rX32_findPieces_11 hm _ ?_)
  intro n en
  have hc0 := L1.2.2.2.2.2
  have en2 : n = min300 (M2 0 19) := by rw [en, rh_ifd]; rfl
  have nb := min300_b hc0
  rw [← en2] at nb
  have f12 : frx (fun a j => (a = 0 ∧ (j = 17 ∨ j = 18 ∨ j = 19 ∨ j = 31)) ∨ (9 ≤ a ∧ a ≤ 11) ∨ (15 ≤ a ∧ a ≤ 22)) M M2 := (f1.w (fun a j h => by omega)).tr (f2.w (fun a j h => by omega))
  have q17 : M2 0 17 = W := by rw [f2 0 17 (by omega), g1]
  have q18 : M2 0 18 = H := by rw [f2 0 18 (by omega), g2]
  have q11 : ∀ k, 0 ≤ k ∧ k < W * H → M2 11 k = if M 3 (6144 * p + k) < 128 then 1 else 0 := fun k hk => by rw [f2 11 k (by omega)]; exact g3 k hk
  have key : ∀ (v : Nat) (i : Int) (M' : rhM), (n - i).toNat = v → (0 ≤ i) → (i ≤ n) → (frx (fun a j => (a = 0 ∧ j = 31) ∨ a = 15) M2 M') → (M' 0 31 = n) → (∀ j, 0 ≤ j → j < i → M' 15 j = 0) → rh1 wm YX32_findPieces 2 27 [(0, 2, 0), (2, 0, i)] [] M' (fun r M' => r = 0 ∧ frx (fun a j => (a = 0 ∧ (j = 17 ∨ j = 18 ∨ j = 19 ∨ j = 31)) ∨ (9 ≤ a ∧ a ≤ 11) ∨ (15 ≤ a ∧ a ≤ 22)) M M' ∧ (∀ k, 0 ≤ k ∧ k < W * H → M' 11 k = if M 3 (6144 * p + k) < 128 then 1 else 0) ∧ PcM M' W H (mcol M p)) := by
    intro v
    induction v using Nat.strongRecOn with
    | ind v ih =>
      intro i M' hv i0 i1 f h31 hj
      refine rh1.of (rX32_findPieces_27 hm _ _ ?_)
      rw [h31]
      refine ⟨fun c => ⟨⟨by omega, by omega⟩, ⟨by omega, by omega⟩, ?_⟩, fun c => ?_⟩
      · refine ih _ (by omega) (i + 1) _ rfl (by omega) (by omega) (f.st (.inr rfl)) (by rw [rh_set_a (by decide), h31]) (fun j j0 j1 => ?_)
        by_cases q : j = i
        · rw [q, rh_set_s]
        · rw [rh_set_j q]; exact hj j j0 (by omega)
      · have hi : i = n := (by omega)
        subst hi
        have key2 : ∀ (v : Nat) (k : Nat) (M3 : rhM), (W * H - k).toNat = v → ((k : Int) ≤ W * H) → (frx (fun a j => (a = 0 ∧ j = 31) ∨ (15 ≤ a ∧ a ≤ 22)) M2 M3) → (M3 0 31 = i) → (∀ j, 0 ≤ j → j < i → M3 15 j = nct (M2 9) j k ∧ (M3 15 j ≠ 0 → Pq W k (M2 9) j (M3 22 j) (M3 16 j) (M3 17 j) (M3 18 j) (M3 19 j) ∧ M3 20 j = psum (· % W) (M2 9) j k ∧ M3 21 j = psum (· / W) (M2 9) j k)) → rh1 wm YX32_findPieces 2 50 [(0, 2, 0), (2, 0, (k : Int))] [] M3 (fun r M' => r = 0 ∧ frx (fun a j => (a = 0 ∧ (j = 17 ∨ j = 18 ∨ j = 19 ∨ j = 31)) ∨ (9 ≤ a ∧ a ≤ 11) ∨ (15 ≤ a ∧ a ≤ 22)) M M' ∧ (∀ k, 0 ≤ k ∧ k < W * H → M' 11 k = if M 3 (6144 * p + k) < 128 then 1 else 0) ∧ PcM M' W H (mcol M p)) := by
          intro v
          induction v using Nat.strongRecOn with
          | ind v ih2 =>
            intro k M3 hv k1 f3 h3 hq
            have w17 : M3 0 17 = W := by rw [f3 0 17 (by omega), q17]
            have w18 : M3 0 18 = H := by rw [f3 0 18 (by omega), q18]
            have w9 : M3 9 = M2 9 := f3.cell (fun j => (by omega))
            have eK : ((k + 1 : Nat) : Int) = (k : Int) + 1 := (by omega)
            refine rh1.of (rX32_findPieces_50 hm _ _ ?_)
            simp only [rh_sets, Int.reduceEq, reduceIte]
            rw [w17, w18, w9]
            refine ⟨⟨by omega, by omega⟩, fun c => ⟨⟨by omega, by omega⟩, fun z => ⟨fun z2 => ⟨⟨by omega, by omega⟩, ?_⟩, fun z2 => ?_⟩, fun z => ⟨⟨by omega, by omega⟩, ?_⟩⟩, fun c => ⟨trivial, ?_, ?_, ?_⟩⟩
            · rw [← eK]
              refine ih2 _ (by omega) (k + 1) _ rfl (by omega) f3 h3 (fun j j0 j1 => ?_)
              obtain ⟨a1, a2⟩ := hq j j0 j1
              have hne : M2 9 (k : Int) ≠ j := (by omega)
              refine ⟨by rw [a1]; simp only [nct]; rw [if_neg hne]; omega, fun a3 => ?_⟩
              obtain ⟨b1, b2, b3⟩ := a2 a3
              refine ⟨by rw [eK]; exact b1.skip hne, ?_, ?_⟩
              · rw [b2]; simp only [psum]; rw [if_neg hne]; omega
              · rw [b3]; simp only [psum]; rw [if_neg hne]; omega
            · have hl1 := (L1.1 (k : Int) ⟨by omega, by omega⟩).2
              have hW1 := wpos hW0 (show (0 : Int) ≤ (k : Int) by omega) c
              have bk := dm_b hW1 (show (0 : Int) ≤ (k : Int) by omega) c
              generalize hg : M2 9 (k : Int) = g at *
              have hgi : 0 ≤ g ∧ g < i := by
                have : i = M2 0 19 ∨ i = 300 := by rw [en2]; unfold min300; split <;> omega
                omega
              have hg3 : 0 ≤ g ∧ g < 300 := ⟨by omega, by omega⟩
              obtain ⟨a1, a2⟩ := hq g hgi.1 hgi.2
              have nbd := nct_b (M2 9) g k
              refine ⟨⟨by omega, by omega⟩, fun px epx => ⟨⟨by omega, by omega⟩, fun py epy => ⟨hg3, fun fb efb => ⟨fun _ => hg3, fun xf exf => ⟨hg3, fun _ => hg3, fun xl exl => ⟨hg3, fun _ => hg3, fun _ => ⟨by omega, by omega⟩, fun xr exr => ?_⟩⟩⟩⟩⟩⟩
              -- what they become
              have hfb : fb ≠ 0 ↔ M3 15 g = 0 := by
                rw [efb, rh_if]; split
                · rename_i h; exact ⟨fun _ => h, fun _ => by decide⟩
                · rename_i h; exact ⟨fun z => absurd rfl z, fun z => absurd z h⟩
              have hsx := psum_b (g := fun j => j % W) (lab := M2 9) (i := g) (m := 128) k (fun j j0 j1 => by have := dm_b (z := j) (H := H) hW1 j0 (by omega); exact ⟨this.1.1, (by omega)⟩) (by omega)
              have hsy := psum_b (g := fun j => j / W) (lab := M2 9) (i := g) (m := 96) k (fun j j0 j1 => by have := dm_b (z := j) (H := H) hW1 j0 (by omega); exact ⟨this.2.1, (by omega)⟩) (by omega)
              have hxr : rI xr := by
                rw [exr, rh_if]; split
                · exact ⟨(by omega), (by omega)⟩
                · rename_i h
                  have h1 : M3 15 g ≠ 0 := fun z => h (hfb.mpr z)
                  obtain ⟨b1, b2, b3⟩ := a2 h1
                  obtain ⟨d0, d1, d2, d3⟩ := b1.2.2.2.1
                  have := dm_b (z := d0) (H := H) hW1 d1.1 (by omega)
                  rw [rh_if]; split
                  · exact ⟨(by omega), (by omega)⟩
                  · exact ⟨(by omega), (by omega)⟩
              refine ⟨hg3, hxr, fun _ => hg3, fun xt ext_ => ⟨hg3, hg3, ⟨by omega, by omega⟩, fun _ => hg3, fun sx esx => ?_⟩⟩
              have hsx2 : sx = psum (· % W) (M2 9) g (k + 1) := by
                simp only [psum]
                rw [if_pos hg, esx, rh_if]
                split
                · rename_i h
                  have := nct_z (f := M2 9) (c := g) (t := k) (by rw [← a1]; exact hfb.mp h)
                  rw [psum_z k this, epx]
                · rename_i h
                  rw [(a2 (fun z => h (hfb.mpr z))).2.1, epx]
              have hsxb : 0 ≤ sx ∧ sx ≤ 128 * 6145 := by
                have := psum_b (g := fun j => j % W) (lab := M2 9) (i := g) (m := 128) (k + 1) (fun j j0 j1 => by have := dm_b (z := j) (H := H) hW1 j0 (by omega); exact ⟨this.1.1, (by omega)⟩) (by omega)
                rw [hsx2]; exact ⟨this.1, by omega⟩
              refine ⟨hg3, ⟨by omega, by omega⟩, fun _ => hg3, fun sy esy => ?_⟩
              have hsy2 : sy = psum (· / W) (M2 9) g (k + 1) := by
                simp only [psum]
                rw [if_pos hg, esy, rh_if]
                split
                · rename_i h
                  have := nct_z (f := M2 9) (c := g) (t := k) (by rw [← a1]; exact hfb.mp h)
                  rw [psum_z k this, epy]
                · rename_i h
                  rw [(a2 (fun z => h (hfb.mpr z))).2.2, epy]
              have hsyb : 0 ≤ sy ∧ sy ≤ 96 * 6145 := by
                have := psum_b (g := fun j => j / W) (lab := M2 9) (i := g) (m := 96) (k + 1) (fun j j0 j1 => by have := dm_b (z := j) (H := H) hW1 j0 (by omega); exact ⟨this.2.1, (by omega)⟩) (by omega)
                rw [hsy2]; exact ⟨this.1, by omega⟩
              refine ⟨hg3, ⟨by omega, by omega⟩, fun M9 e9 => ?_⟩
              have c15 : M9 15 g = M3 15 g := by rw [e9]; simp [rh_sets]
              rw [c15]
              refine ⟨hg3, fun na ena => ⟨hg3, ⟨by omega, by omega⟩, ⟨by omega, by omega⟩, ?_⟩⟩
              rw [← eK]
              refine ih2 _ (by omega) (k + 1) _ rfl (by omega) ?_ ?_ (fun j j0 j1 => ?_)
              · rw [e9]
                exact (((((((f3.st (by omega)).st (by omega)).st (by omega)).st (by omega)).st (by omega)).st (by omega)).st (by omega)).st (by omega)
              · rw [e9]; simp [rh_sets, h3]
              · by_cases q : j = g
                · subst q
                  have r15 : rh_set M9 15 j na 15 j = na := rh_set_s _ _ _ _
                  have r16 : rh_set M9 15 j na 16 j = xl := by rw [e9]; simp [rh_sets]
                  have r17 : rh_set M9 15 j na 17 j = xt := by rw [e9]; simp [rh_sets]
                  have r18 : rh_set M9 15 j na 18 j = xr := by rw [e9]; simp [rh_sets]
                  have r19 : rh_set M9 15 j na 19 j = py + 1 := by rw [e9]; simp [rh_sets]
                  have r20 : rh_set M9 15 j na 20 j = sx := by rw [e9]; simp [rh_sets]
                  have r21 : rh_set M9 15 j na 21 j = sy := by rw [e9]; simp [rh_sets]
                  have r22 : rh_set M9 15 j na 22 j = xf := by rw [e9]; simp [rh_sets]
                  rw [r15, r16, r17, r18, r19, r20, r21, r22]
                  refine ⟨by simp only [nct]; rw [if_pos hg, ena, a1], fun _ => ⟨?_, hsx2, hsy2⟩⟩
                  rw [eK]
                  by_cases hz : M3 15 j = 0
                  · have hf := hfb.mpr hz
                    rw [exf, exl, exr, ext_, rh_if_t hf, rh_if_t hf, rh_if_t hf, rh_if_t hf, epx, epy]
                    exact Pq.first (by omega) (fun y hy => nct_z (f := M2 9) (c := j) (t := k) (by rw [← a1]; exact hz) y hy.1 hy.2) hg
                  · have hf : ¬ (fb ≠ 0) := fun z => hz (hfb.mp z)
                    obtain ⟨b1, b2, b3⟩ := a2 hz
                    rw [rh_if_f hf] at exf exl exr ext_
                    rw [exf, ext_, epy]
                    refine b1.next hW1 hg ?_ ?_
                    · rw [exl, rh_ifd, ← epx]; split <;> split <;> omega
                    · rw [exr, rh_ifd, ← epx]; split <;> split <;> omega
                · obtain ⟨d1, d2⟩ := hq j j0 j1
                  have hne : M2 9 (k : Int) ≠ j := fun z => q (z.symm.trans hg)
                  have r15 : ∀ a : Int, 15 ≤ a → a ≤ 22 → rh_set M9 15 g na a j = M3 a j := fun a _ _ => by
                    rw [rh_set_j q, e9, rh_set_j q, rh_set_j q, rh_set_j q, rh_set_j q, rh_set_j q, rh_set_j q, rh_set_j q]
                  rw [r15 15 (by omega) (by omega), r15 16 (by omega) (by omega), r15 17 (by omega) (by omega), r15 18 (by omega) (by omega), r15 19 (by omega) (by omega), r15 20 (by omega) (by omega), r15 21 (by omega) (by omega), r15 22 (by omega) (by omega)]
                  refine ⟨by rw [d1]; simp only [nct]; rw [if_neg hne]; omega, fun d3 => ?_⟩
                  obtain ⟨b1, b2, b3⟩ := d2 d3
                  refine ⟨by rw [eK]; exact b1.skip hne, ?_, ?_⟩
                  · rw [b2]; simp only [psum]; rw [if_neg hne]; omega
                  · rw [b3]; simp only [psum]; rw [if_neg hne]; omega
            · rw [← eK]
              have hne0 : M2 9 (k : Int) = -1 := Classical.not_not.mp z
              refine ih2 _ (by omega) (k + 1) _ rfl (by omega) f3 h3 (fun j j0 j1 => ?_)
              obtain ⟨a1, a2⟩ := hq j j0 j1
              have hne : M2 9 (k : Int) ≠ j := (by omega)
              refine ⟨by rw [a1]; simp only [nct]; rw [if_neg hne]; omega, fun a3 => ?_⟩
              obtain ⟨b1, b2, b3⟩ := a2 a3
              refine ⟨by rw [eK]; exact b1.skip hne, ?_, ?_⟩
              · rw [b2]; simp only [psum]; rw [if_neg hne]; omega
              · rw [b3]; simp only [psum]; rw [if_neg hne]; omega
            · exact f12.tr (f3.w (fun a j h => by omega))
            · intro y hy
              rw [f3 11 y (by omega)]; exact q11 y hy
            · have hk : (k : Int) = W * H := (by omega)
              have hk2 : (W * H).toNat = k := (by omega)
              unfold PcM
              rw [w17, w18, w9, h3, f3 0 19 (by omega), hk2]
              refine ⟨rfl, rfl, L1, L2, en2, fun j j0 j1 => ?_⟩
              obtain ⟨a1, a2⟩ := hq j j0 j1
              obtain ⟨y, y0, y1⟩ := L1.2.2.2.2.1 j j0 (by omega)
              have hpos := nct_pos y0.1 y1 k (by omega)
              obtain ⟨b1, b2, b3⟩ := a2 (by omega)
              exact ⟨a1, by rw [hk] at b1; exact b1, b2, b3⟩
        exact key2 _ 0 M' rfl hN0 (f.w (fun a j h => by omega)) h31 (fun j j0 j1 => ⟨by rw [hj j j0 j1]; rfl, fun z => absurd (hj j j0 j1) z⟩)
  exact key _ 0 _ rfl (by omega) nb.1 (frx.rf.st (.inl ⟨rfl, rfl⟩)) (rh_set_s _ _ _ _) (fun j j0 j1 => by omega)
end FindPieces
