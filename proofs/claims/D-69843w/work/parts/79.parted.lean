/-! ===== LAYER 2: where words part (partedAbove, partGaps) ===== -/
section Parted
variable {wh wm : rhW}
theorem mulb {a b A C : Int} (a0 : 0 ≤ a) (a1 : a ≤ A) (b0 : 0 ≤ b) (b1 : b ≤ C) : 0 ≤ a * b ∧ a * b ≤ A * C :=
  ⟨Int.mul_nonneg a0 b0, Int.mul_le_mul a1 b1 b0 (Int.le_trans a0 a1)⟩
theorem mulab {a b A C : Int} (a0 : -A ≤ a) (a1 : a ≤ A) (b0 : 0 ≤ b) (b1 : b ≤ C) : -(A * C) ≤ a * b ∧ a * b ≤ A * C := by
  by_cases h : 0 ≤ a
  · have := mulb h a1 b0 b1
    omega
  · have := mulb (show 0 ≤ -a by omega) (show -a ≤ A by omega) b0 b1
    rw [Int.neg_mul] at this
    omega
theorem sqB {a A : Int} (a0 : -A ≤ a) (a1 : a ≤ A) : 0 ≤ a * a ∧ a * a ≤ A * A := by
  by_cases h : 0 ≤ a
  · exact mulb h a1 h a1
  · have := mulb (show 0 ≤ -a by omega) (show -a ≤ A by omega) (show 0 ≤ -a by omega) (show -a ≤ A by omega)
    rwa [Int.neg_mul_neg] at this
theorem c_parted (hh : rh_hs wh) (hm : rh_ms wm) {y n : Int} (hy : rh_bl wh 1 y 0) (hy2 : 100 ≤ y) (hn : -1 ≤ n ∧ n < 300) (Mh Mm : rhM) (hg : ∀ j, 0 ≤ j → j < n → Mh (y + 26) j = Mm 54 j ∧ 0 ≤ Mm 54 j ∧ Mm 54 j ≤ 128) :
    rC2 wh YX30_partedAbove 0 [(2, y), (0, n)] Mh wm YX32_partGaps 0 [(2, 0), (0, n)] Mm (fun r M1 r2 M2 => r = r2 ∧ frx (fun c _ => c = y + 27) Mh M1 ∧ frx (fun c _ => c = 55) Mm M2 ∧ -1 ≤ r ∧ r ≤ 128) := by
  refine rC2.of (by decide) (LE0 rfl) (by decide) (LE0 rfl) ?_
  replace hg := Hid.mk hg
  refine rh2.l (rX30_partedAbove_0 hh _ _ _ hy ?_)
  refine rh2.r (rX32_partGaps_0 hm _ _ ?_)
  have key : ∀ (vq : Nat) (k : Int) (M1 M2 : rhM), (n - k).toNat = vq → (0 ≤ k) → ((k ≤ n ∨ k = 0)) → (frx (fun c _ => c = y + 27) Mh M1) → (frx (fun c _ => c = 55) Mm M2) → ((∀ j, 0 ≤ j → j < k → M1 (y + 27) j = M2 55 j ∧ 0 ≤ M2 55 j ∧ M2 55 j ≤ 128)) → rh2 wh YX30_partedAbove 0 2 [(0, 2, y), (1, 0, n), (2, 0, k)] [] M1 wm YX32_partGaps 0 2 [(0, 2, 0), (1, 0, n), (2, 0, k)] [] M2 (fun r M1 r2 M2 => r = r2 ∧ frx (fun c _ => c = y + 27) Mh M1 ∧ frx (fun c _ => c = 55) Mm M2 ∧ -1 ≤ r ∧ r ≤ 128) := by
    intro vq
    induction vq using Nat.strongRecOn with
    | ind vq ih =>
      intro k M1 M2 hvq k0 k1 f1 f2 hs
      replace hs := Hid.mk hs
      refine rh2.l (rX30_partedAbove_2 hh _ _ _ _ hy ?_)
      refine ⟨fun c => ?_, fun c => ?_⟩
      · refine rh2.r (rX32_partGaps_2 hm _ _ _ ?_)
        refine ⟨fun _ => ?_, fun d => absurd c d⟩
        have hgk := hg.out k k0 c
        -- the row is opened at t
        have key2 : ∀ (vq : Nat) (t : Int) (N1 N2 : rhM), (t).toNat = vq → (0 ≤ t) → (t ≤ k) → (frx (fun c _ => c = y + 27) Mh N1) → (frx (fun c _ => c = 55) Mm N2) → ((∀ j, 0 ≤ j → j ≤ k → j ≠ t → N1 (y + 27) j = N2 55 j ∧ 0 ≤ N2 55 j ∧ N2 55 j ≤ 128)) → rh2 wh YX30_partedAbove 0 9 [(0, 2, y), (1, 0, n), (2, 0, k), (3, 0, t)] [] N1 wm YX32_partGaps 0 9 [(0, 2, 0), (1, 0, n), (2, 0, k), (3, 0, t)] [] N2 (fun r M1 r2 M2 => r = r2 ∧ frx (fun c _ => c = y + 27) Mh M1 ∧ frx (fun c _ => c = 55) Mm M2 ∧ -1 ≤ r ∧ r ≤ 128) := by
          intro vq
          induction vq using Nat.strongRecOn with
          | ind vq ih2 =>
            intro t N1 N2 hvq t0 t1 e1 e2 ht
            have g1 : N1 (y + 26) k = Mm 54 k := by rw [e1 _ _ (by omega)]; exact hgk.1
            have g2 : N2 54 k = Mm 54 k := e2 _ _ (by omega)
            replace ht := Hid.mk ht
            refine rh2.l (rX30_partedAbove_9 hh _ _ _ _ _ hy ?_)
            rw [g1]
            refine ⟨fun _ => ⟨by omega, by omega⟩, fun _ => ⟨by omega, by omega⟩, fun z => ⟨⟨by omega, by omega⟩, ⟨by omega, by omega⟩, ⟨by omega, by omega⟩, ?_⟩, fun z => ⟨⟨by omega, by omega⟩, ⟨by omega, by omega⟩, ⟨by omega, by omega⟩, ?_⟩⟩
            · have q := ht.out (t - 1) (by omega) (by omega) (by omega)
              rw [q.1] at z ⊢
              refine rh2.r (rX32_partGaps_9 hm _ _ _ _ ?_)
              rw [g2]
              refine ⟨fun _ => ⟨by omega, by omega⟩, fun _ => ⟨by omega, by omega⟩, fun _ => ⟨⟨by omega, by omega⟩, ⟨by omega, by omega⟩, ⟨by omega, by omega⟩, ih2 _ (by omega) (t + -1) _ _ rfl (by omega) (by omega) (e1.st rfl) (e2.st rfl) (fun j j0 j1 j2 => ?_)⟩, fun w => absurd z w⟩
              by_cases e : j = t
              · rw [e, rh_set_s, rh_set_s]; exact ⟨rfl, q.2⟩
              · rw [rh_set_j e, rh_set_j e]; exact ht.out j j0 j1 e
            · refine rh2.r (rX32_partGaps_9 hm _ _ _ _ ?_)
              rw [g2]
              refine ⟨fun _ => ⟨by omega, by omega⟩, fun _ => ⟨by omega, by omega⟩, fun w => absurd ⟨w.1, by rw [(ht.out (t - 1) (by omega) (by omega) (by omega)).1]; exact w.2⟩ z, fun w => ⟨⟨by omega, by omega⟩, ⟨by omega, by omega⟩, ⟨by omega, by omega⟩, ih _ (by omega) (k + 1) _ _ rfl (by omega) (.inl (by omega)) (e1.st rfl) (e2.st rfl) (fun j j0 j1 => ?_)⟩⟩
              by_cases e : j = t
              · rw [e, rh_set_s, rh_set_s]; exact ⟨rfl, hgk.2⟩
              · rw [rh_set_j e, rh_set_j e]; exact ht.out j j0 (by omega) e
        exact key2 _ k M1 M2 rfl k0 (by omega) f1 f2 (fun j j0 j1 j2 => hs.out j j0 (by omega))
      · refine rh2.r (rX32_partGaps_2 hm _ _ _ ?_)
        refine ⟨fun d => absurd d c, fun _ => ?_⟩
        have key3 : ∀ (vq : Nat) (j s : Int), (n - j).toNat = vq → (0 ≤ j) → ((j ≤ n ∨ j = 0)) → (0 ≤ s ∧ s ≤ 128 * j) → rh2 wh YX30_partedAbove 0 73 [(0, 2, y), (1, 0, n), (2, 1, s), (4, 0, j)] [] M1 wm YX32_partGaps 0 73 [(0, 2, 0), (1, 0, n), (2, 1, s), (4, 0, j)] [] M2 (fun r M1 r2 M2 => r = r2 ∧ frx (fun c _ => c = y + 27) Mh M1 ∧ frx (fun c _ => c = 55) Mm M2 ∧ -1 ≤ r ∧ r ≤ 128) := by
          intro vq
          induction vq using Nat.strongRecOn with
          | ind vq ih3 =>
            intro j s hvq j0 j1 s0
            refine rh2.l (rX30_partedAbove_73 hh _ _ _ _ _ hy ?_)
            refine ⟨fun d => ⟨⟨by omega, by omega⟩, fun v ev => ?_⟩, fun d => ?_⟩
            · have q := hs.out j j0 (by omega)
              rw [q.1] at ev
              refine ⟨⟨by omega, by omega⟩, ⟨by omega, by omega⟩, ?_⟩
              refine rh2.r (rX32_partGaps_73 hm _ _ _ _ ?_)
              rw [← ev]
              exact ⟨fun _ => ⟨⟨by omega, by omega⟩, ⟨by omega, by omega⟩, ⟨by omega, by omega⟩, ih3 _ (by omega) (j + 1) v rfl (by omega) (.inl (by omega)) ⟨by omega, by omega⟩⟩, fun w => absurd d w⟩
            · refine rh2.r (rX32_partGaps_73 hm _ _ _ _ ?_)
              refine ⟨fun w => absurd w d, fun _ => ?_⟩
              have sb : 0 ≤ s ∧ s ≤ 38400 := ⟨by omega, by omega⟩
              have jn : j = n ∨ n ≤ 0 := (by omega)
              clear j0 j1 s0 d ih3 ih
              have key4 : ∀ (vq : Nat) (j bh top bz lo bl up dn bm : Int), (n - j).toNat = vq → (1 ≤ j) → ((j ≤ n ∨ j = 1)) → (0 ≤ lo ∧ lo ≤ 128 * (j - 1)) → ((j = 1 → bh = -1 ∧ up = -1)) → ((1 < j → (1 ≤ bh ∧ bh < j) ∧ bm = bh ∧ up = top ∧ dn = bz ∧ (0 ≤ top ∧ top ≤ 884736000000) ∧ (0 ≤ bz ∧ bz ≤ 90000))) → (0 ≤ bl ∧ bl ≤ 38400) → rh2 wh YX30_partedAbove 0 114 [(0, 2, y), (1, 0, n), (2, 1, s), (4, 0, bh), (5, 1, top), (7, 1, bz), (9, 1, lo), (11, 1, bl), (13, 0, j)] [] M1 wm YX32_partGaps 0 116 [(0, 2, 0), (1, 0, n), (2, 1, s), (4, 1, lo), (6, 1, up), (8, 1, dn), (10, 0, bm), (11, 1, bl), (13, 0, j)] [] M2 (fun r M1 r2 M2 => r = r2 ∧ frx (fun c _ => c = y + 27) Mh M1 ∧ frx (fun c _ => c = 55) Mm M2 ∧ -1 ≤ r ∧ r ≤ 128) := by
                intro vq
                induction vq using Nat.strongRecOn with
                | ind vq ih4 =>
                  intro j bh top bz lo bl up dn bm hvq j0 j1 l0 h1 h2 b0
                  replace h1 := Hid.mk h1
                  replace h2 := Hid.mk h2
                  refine rh2.l (rX30_partedAbove_114 hh _ _ _ _ _ _ _ _ _ _ hy ?_)
                  refine ⟨fun d => ⟨⟨by omega, by omega⟩, fun v ev => ?_⟩, fun d => ?_⟩
                  · have q := hs.out (j - 1) (by omega) (by omega)
                    rw [q.1] at ev
                    have vb : 0 ≤ v ∧ v ≤ 128 * j := ⟨by omega, by omega⟩
                    have q1 := sqB (a := v) (A := 38400) (by omega) (by omega)
                    have q2 := sqB (a := s - v) (A := 38400) (by omega) (by omega)
                    have q3 := mulb q1.1 q1.2 (show 0 ≤ n - j by omega) (show n - j ≤ 300 by omega)
                    have q4 := mulb q2.1 q2.2 (show 0 ≤ j by omega) (show j ≤ 300 by omega)
                    have q5 := mulb (show 0 ≤ j by omega) (show j ≤ 300 by omega) (show 0 ≤ n - j by omega) (show n - j ≤ 300 by omega)
                    refine ⟨⟨by omega, by omega⟩, ⟨by omega, by omega⟩, ⟨by omega, by omega⟩, fun w ew => ?_⟩
                    have wb : 0 ≤ w ∧ w ≤ 884736000000 := ⟨by omega, by omega⟩
                    have rr : bh ≠ -1 → rL (w * bz) ∧ rL (top * (j * (n - j))) := fun z => by
                      have hj : 1 < j := by
                        by_cases y : j = 1
                        · exact absurd (h1.out y).1 z
                        · omega
                      obtain ⟨-, -, -, -, z5, z6⟩ := h2.out hj
                      have := mulb wb.1 wb.2 z6.1 z6.2
                      have := mulb z5.1 z5.2 q5.1 q5.2
                      exact ⟨⟨by omega, by omega⟩, ⟨by omega, by omega⟩⟩
                    refine ⟨⟨by omega, by omega⟩, ⟨by omega, by omega⟩, ⟨by omega, by omega⟩, fun z => (rr z).1, fun z => (rr z).2, ⟨by omega, by omega⟩, ?_⟩
                    refine rh2.r (rX32_partGaps_116 hm _ _ _ _ _ _ _ _ _ ?_)
                    refine ⟨fun _ => ⟨⟨by omega, by omega⟩, fun v' ev' => ?_⟩, fun z => absurd d z⟩
                    rw [← ev] at ev'
                    subst ev'
                    refine ⟨⟨by omega, by omega⟩, ⟨by omega, by omega⟩, ⟨by omega, by omega⟩, fun w' ew' => ?_⟩
                    rw [← ew] at ew'
                    subst ew'
                    generalize hnb : j * (n - j) = nb at *
                    have hC : (up < 0 ∨ up * nb < w' * dn) ↔ (bh = -1 ∨ top * nb < w' * bz) := by
                      by_cases y : j = 1
                      · obtain ⟨y1, y2⟩ := h1.out y
                        exact ⟨fun _ => .inl y1, fun _ => .inl (by omega)⟩
                      · obtain ⟨y1, y2, y3, y4, y5, y6⟩ := h2.out (by omega)
                        rw [y3, y4]
                        exact ⟨fun z => by rcases z with z | z; omega; exact .inr z, fun z => by rcases z with z | z; omega; exact .inr z⟩
                    have rr2 : 0 ≤ up → rL (w' * dn) ∧ rL (up * nb) := fun z => by
                      have hj : 1 < j := by
                        by_cases y : j = 1
                        · have := (h1.out y).2; omega
                        · omega
                      obtain ⟨y1, y2, y3, y4, y5, y6⟩ := h2.out hj
                      rw [y3, y4]
                      exact rr (by omega)
                    refine ⟨⟨by omega, by omega⟩, ⟨by omega, by omega⟩, ⟨by omega, by omega⟩, fun z => (rr2 z).1, fun z => (rr2 z).2, ⟨by omega, by omega⟩, ?_⟩
                    rw [propext hC]
                    clear rr rr2 hC
                    by_cases C : bh = -1 ∨ top * nb < w' * bz
                    · simp only [rh_if_t C]
                      exact ih4 _ (by omega) (j + 1) _ _ _ _ _ _ _ _ rfl (by omega) (.inl (by omega)) ⟨by omega, by omega⟩ (fun z => by omega) (fun _ => ⟨⟨by omega, by omega⟩, rfl, rfl, rfl, wb, ⟨by omega, by omega⟩⟩) ⟨by omega, by omega⟩
                    · simp only [rh_if_f C]
                      have hj : 1 < j := by
                        by_cases y : j = 1
                        · exact absurd (.inl (h1.out y).1) C
                        · omega
                      obtain ⟨y1, y2, y3, y4, y5, y6⟩ := h2.out hj
                      exact ih4 _ (by omega) (j + 1) _ _ _ _ _ _ _ _ rfl (by omega) (.inl (by omega)) ⟨by omega, by omega⟩ (fun z => by omega) (fun _ => ⟨⟨by omega, by omega⟩, y2, y3, y4, y5, y6⟩) b0
                  · have rr : bh ≠ -1 → 1 < j ∧ rI (n - bh) ∧ rL ((s - bl) * bh) ∧ rL ((2 * bl + bh) * (n - bh)) := fun z => by
                      have hj : 1 < j := by
                        by_cases y : j = 1
                        · exact absurd (h1.out y).1 z
                        · omega
                      obtain ⟨y1, -⟩ := h2.out hj
                      have := mulab (a := s - bl) (A := 38400) (by omega) (by omega) (show 0 ≤ bh by omega) (show bh ≤ 300 by omega)
                      have := mulb (show 0 ≤ 2 * bl + bh by omega) (show 2 * bl + bh ≤ 80000 by omega) (show 0 ≤ n - bh by omega) (show n - bh ≤ 300 by omega)
                      exact ⟨hj, ⟨by omega, by omega⟩, ⟨by omega, by omega⟩, ⟨by omega, by omega⟩⟩
                    refine ⟨fun z => (rr z).2.1, fun z => (rr z).2.2.1, fun z => (rr z).2.2.2, fun z => ?_, fun z => ?_⟩
                    · refine rh1.of (rX32_partGaps_116 hm _ _ _ _ _ _ _ _ _ ?_)
                      refine ⟨fun y => absurd y d, fun _ => ⟨fun _ => ⟨rfl, f1, f2, (by omega), (by omega)⟩, fun y => ?_⟩⟩
                      have hj : 1 < j := (by omega)
                      obtain ⟨y1, y2, y3, y4, y5, y6⟩ := h2.out hj
                      obtain ⟨-, r1, r2, r3⟩ := rr (by omega)
                      rw [y2]
                      have e : 2 * bl * (n - bh) + bh * (n - bh) = (2 * bl + bh) * (n - bh) := (Int.add_mul _ _ _).symm
                      rw [e]
                      have z' : ¬ ((2 * bl + bh) * (n - bh) ≤ (s - bl) * bh) := by
                        rcases z with z | z
                        · omega
                        · omega
                      refine ⟨r1, r1, r2, r3, fun v ev => ?_⟩
                      rw [rh_if_f z'] at ev
                      refine ⟨fun q => absurd ev q, ?_, f1, f2, (by omega), (by omega)⟩
                      rw [rh_if_f (fun q => q ev)]
                    · have hb : bh ≠ -1 := fun y => z (.inl y)
                      obtain ⟨hj, r1, r2, r3⟩ := rr hb
                      obtain ⟨y1, y2, y3, y4, y5, y6⟩ := h2.out hj
                      have q := hs.out (bh - 1) (by omega) (by omega)
                      refine ⟨⟨by omega, by omega⟩, ?_⟩
                      refine rh1.of (rX32_partGaps_116 hm _ _ _ _ _ _ _ _ _ ?_)
                      refine ⟨fun y => absurd y d, fun _ => ⟨fun y => by omega, fun y => ?_⟩⟩
                      rw [y2]
                      have e : 2 * bl * (n - bh) + bh * (n - bh) = (2 * bl + bh) * (n - bh) := (Int.add_mul _ _ _).symm
                      rw [e]
                      have z' : (2 * bl + bh) * (n - bh) ≤ (s - bl) * bh := Int.not_lt.mp (fun y => z (.inr y))
                      refine ⟨r1, r1, r2, r3, fun v ev => ?_⟩
                      rw [rh_if_t z'] at ev
                      refine ⟨fun _ => ⟨by omega, by omega⟩, ?_, f1, f2, ?_, ?_⟩
                      · rw [rh_if_t (show v ≠ 0 by omega), q.1]
                      · rw [q.1]; omega
                      · rw [q.1]; omega
              exact key4 _ 1 (-1) 0 1 0 0 (-1) 1 0 rfl (by omega) (.inr rfl) ⟨by omega, by omega⟩ (fun _ => ⟨rfl, rfl⟩) (fun z => by omega) ⟨by omega, by omega⟩
        exact key3 _ 0 0 rfl (by omega) (.inr rfl) ⟨by omega, by omega⟩
  exact key _ 0 Mh Mm rfl (by omega) (.inr rfl) frx.rf frx.rf (fun j j0 j1 => by omega)
end Parted
