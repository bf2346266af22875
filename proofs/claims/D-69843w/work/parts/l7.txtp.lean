/-! ===== LAYER 2: texts: the model's marked text; op text ===== -/
section TxtP
variable {wh wm : rhW}
theorem n_val {M B1 : rhM} {c r j : Int} (f : ∀ i, B1 c i = M c i) : rh_if ((j = 0) ∨ ((B1 c ((80 * r + j) - 1)) ≠ (B1 c (80 * r + j)))) (1 : Int) 0 = rh_if (j = 0 ∨ M c (80 * r + j) ≠ M c (80 * r + (j - 1))) (1 : Int) 0 := by
  rw [f, f, show 80 * r + j - 1 = 80 * r + (j - 1) by omega]
  by_cases h : j = 0 ∨ M c (80 * r + j) ≠ M c (80 * r + (j - 1))
  · rw [rh_if_t h, rh_if_t]
    rcases h with h | h
    · exact .inl h
    · exact .inr (Ne.symm h)
  · rw [rh_if_f h, rh_if_f]
    intro z
    rcases z with z | z
    · exact h (.inl z)
    · exact h (.inr (Ne.symm z))
theorem c_marked (hm : rh_ms wm) {r : Int} {N : Nat} {M B : rhM} (hr : 0 ≤ r ∧ r < 4) (hN : N ≤ 80) (h4 : M 114 r = N) (W : Wds M r N) (NS : ∀ j : Int, 0 ≤ j → j < N → Nsm M (80 * r + j)) (S : SmB M r N) (f : frx Fptx M B) : ∃ B', eC wm YX32_markedText 3 [(2, 0), (0, r)] B 0 B' ∧ Mox B' (htx M r N 1 N) ∧ frx Fptx M B' := by
  have key : ∀ (u j : Nat) (B1 : rhM), j + u = N → Mox B1 (htx M r N 1 j) → frx Fptx M B1 → ∃ B', (∀ P : Int → rhM → Prop, P 0 B' → rh1 wm YX32_markedText 3 7 [(0, 2, 0), (1, 0, r), (2, 0, (j : Int))] [] B1 P) ∧ Mox B' (htx M r N 1 N) ∧ frx Fptx M B' := by
    intro u
    induction u with
    | zero =>
      intro j B1 hj o1 f1
      have e : j = N := by omega
      subst e
      have e1 : B1 114 r = (j : Int) := by rw [f1 _ _ (by unfold Fptx; omega)]; exact h4
      refine ⟨B1, fun P K => ?_, o1, f1⟩
      refine rh1.of (rX32_markedText_7 hm _ _ _ ?_)
      rw [e1]
      exact ⟨⟨by omega, by omega⟩, fun z => by omega, fun _ => K⟩
    | succ u ih =>
      intro j B1 hj o1 f1
      have jN : (0 : Int) ≤ j ∧ (j : Int) < N := ⟨by omega, by omega⟩
      have e1 : B1 114 r = (N : Int) := by rw [f1 _ _ (by unfold Fptx; omega)]; exact h4
      have Wj := (W j jN.1 jN.2).1
      have hl := htx_l (M := M) (r := r) (N := N) (mk := 1) (fun i i0 i1 => (W i i0 i1).1.2) j (by omega)
      have v0 := n_val (r := r) (j := (j : Int)) (c := 120) (M := M) (B1 := B1) (fun i => f1 _ _ (by unfold Fptx; omega))
      have v1 := n_val (r := r) (j := (j : Int)) (c := 119) (M := M) (B1 := B1) (fun i => f1 _ _ (by unfold Fptx; omega))
      have lt : (htx M r N 1 j).length ≤ 8320 := by omega
      have st7 : ∀ (P : Int → rhM → Prop), (bkN M r j → rh1 wm YX32_markedText 3 89 [(0, 2, 0), (1, 0, r), (2, 0, (j : Int)), (3, 0, 80 * r + j), (5, 0, rh_if (lnN M r j) (1 : Int) 0)] [(0, 0), (0, 98), (2, 0)] B1 P) → (¬ bkN M r j → lnN M r j → rh1 wm YX32_markedText 3 101 [(0, 2, 0), (1, 0, r), (2, 0, (j : Int)), (3, 0, 80 * r + j)] [(0, 0), (0, 108), (2, 0)] B1 P) → (¬ bkN M r j → ¬ lnN M r j → rh1 wm YX32_markedText 3 106 [(0, 2, 0), (1, 0, r), (2, 0, (j : Int)), (3, 0, 80 * r + j)] [(0, 80 * r + j), (2, 0)] B1 P) → rh1 wm YX32_markedText 3 7 [(0, 2, 0), (1, 0, r), (2, 0, (j : Int))] [] B1 P := fun P h1 h2 h3 => by
        refine rh1.of (rX32_markedText_7 hm _ _ _ ?_)
        rw [e1, v0, v1]
        refine ⟨⟨by omega, by omega⟩, fun _ => ⟨⟨by omega, by omega⟩, fun _ => ⟨by omega, by omega⟩, fun _ => ⟨by omega, by omega⟩, fun s0 g0 => ⟨fun _ => ⟨by omega, by omega⟩, fun _ => ⟨by omega, by omega⟩, fun s1 g1 => ⟨fun z => ?_, fun z => ⟨fun y => ?_, fun y => ?_⟩⟩⟩⟩, fun z => absurd jN.2 z⟩
        · by_cases q : bkN M r j
          · rw [g1]
            exact h1 q
          · exact absurd (g0.trans (rh_if_f q)) z
        · by_cases q : bkN M r j
          · rw [g0.trans (rh_if_t q)] at z; exact absurd (by decide) z
          · by_cases q2 : lnN M r j
            · exact h2 q q2
            · exact absurd (g1.trans (rh_if_f q2)) y
        · by_cases q : bkN M r j
          · rw [g0.trans (rh_if_t q)] at z; exact absurd (by decide) z
          · by_cases q2 : lnN M r j
            · rw [g1.trans (rh_if_t q2)] at y; exact absurd (by decide) y
            · exact h3 q q2
      have pre : ∃ B2, (∀ P : Int → rhM → Prop, rh1 wm YX32_markedText 3 106 [(0, 2, 0), (1, 0, r), (2, 0, (j : Int)), (3, 0, 80 * r + j)] [(0, 80 * r + j), (2, 0)] B2 P → rh1 wm YX32_markedText 3 7 [(0, 2, 0), (1, 0, r), (2, 0, (j : Int))] [] B1 P) ∧ Mox B2 (htx M r N 1 j ++ hpr M r 1 j) ∧ frx Fptx M B2 := by
        by_cases q : bkN M r j
        · have q2 : lnN M r j := Classical.byContradiction (fun z => S.n jN z q)
          obtain ⟨X1, E1, p1, g1⟩ := c_tag0 hm (a := 98) o1 (by omega)
          obtain ⟨X2, E2, p2, g2⟩ := c_tag0 hm (a := 108) p1 (by rw [List.length_append]; show _ + 3 ≤ _; omega)
          rw [List.append_assoc] at p2
          refine ⟨X2, fun P K => st7 P (fun _ => ?_) (fun z => absurd q z) (fun z => absurd q z), by unfold hpr; rw [rh_if_f (by decide), rh_if_t q]; exact p2, (f1.tr g1).tr g2⟩
          refine rh1.s (vX32_markedText_89 hm E1 (LE0 rfl)) ?_
          refine rh1.of (rX32_markedText_92 hm _ _ _ _ _ ?_)
          refine ⟨fun _ => rh1.s (vX32_markedText_101 hm E2 (LE0 rfl)) ?_, fun z => absurd (by rw [rh_if_t q2]; decide) z⟩
          refine rh1.of (rX32_markedText_104 hm _ _ _ _ ?_)
          exact K
        · by_cases q2 : lnN M r j
          · obtain ⟨X2, E2, p2, g2⟩ := c_tag0 hm (a := 108) o1 (by omega)
            refine ⟨X2, fun P K => st7 P (fun z => absurd z q) (fun _ _ => ?_) (fun _ z => absurd q2 z), by unfold hpr; rw [rh_if_f (by decide), rh_if_f q, rh_if_t q2]; exact p2, f1.tr g2⟩
            refine rh1.s (vX32_markedText_101 hm E2 (LE0 rfl)) ?_
            refine rh1.of (rX32_markedText_104 hm _ _ _ _ ?_)
            exact K
          · refine ⟨B1, fun P K => st7 P (fun z => absurd z q) (fun _ z => absurd z q2) (fun _ _ => K), by unfold hpr; rw [rh_if_f (by decide), rh_if_f q, rh_if_f q2, List.append_nil]; exact o1, f1⟩
      obtain ⟨B2, K2, o2, f2⟩ := pre
      have l1 := hpr_l (M := M) (r := r) (mk := 1) (j := (j : Int))
      obtain ⟨B3, E3, o3, f3⟩ := c_mkW hm (k := 80 * r + j) ⟨by omega, by omega⟩ Wj (NS j jN.1 jN.2) f2 o2 (by rw [List.length_append]; omega)
      have eh : hwd M (80 * r + j) 1 = mkw M (80 * r + j) := by unfold hwd; rw [rh_if_f (by decide)]
      rw [← eh] at o3
      have l2 := hwd_l (M := M) (k := 80 * r + j) (mk := 1) Wj.2
      have lb : (htx M r N 1 j ++ hpr M r 1 j ++ hwd M (80 * r + j) 1).length ≤ 15000 := by rw [List.length_append, List.length_append]; omega
      have e2 : B3 114 r = (N : Int) := by rw [f3 _ _ (by unfold Fptx; omega)]; exact h4
      obtain ⟨y, hy⟩ : ∃ y, y = rh_if ((j : Int) + 1 = N) (1 : Int) 0 := ⟨_, rfl⟩
      have y0 : y = 0 → (j : Int) + 1 < N := fun z => by
        by_cases e : (j : Int) + 1 = N
        · rw [rh_if_t e] at hy; omega
        · omega
      have i1 := y_iff (r := r) (c := 119) (M := M) (B1 := B3) (fun i => f3 _ _ (by unfold Fptx; omega)) hy
      have i2 := y_iff (r := r) (c := 120) (M := M) (B1 := B3) (fun i => f3 _ _ (by unfold Fptx; omega)) hy
      have post : ∃ B4, (∀ P : Int → rhM → Prop, rh1 wm YX32_markedText 3 7 [(0, 2, 0), (1, 0, r), (2, 0, (j : Int) + 1)] [] B4 P → rh1 wm YX32_markedText 3 109 [(0, 2, 0), (1, 0, r), (2, 0, (j : Int)), (3, 0, 80 * r + j)] [] B3 P) ∧ Mox B4 (htx M r N 1 j ++ hpr M r 1 j ++ hwd M (80 * r + j) 1 ++ hpo M r N 1 j) ∧ frx Fptx M B4 := by
        by_cases q1 : lnE M r N j
        · obtain ⟨X1, E1, p1, g1⟩ := c_tag1 hm (a := 108) o3 (by omega)
          have g1' : frx Fptx M X1 := f3.tr g1
          have i3 := y_iff (r := r) (c := 120) (M := M) (B1 := X1) (fun i => g1' _ _ (by unfold Fptx; omega)) hy
          have to157 : ∀ P : Int → rhM → Prop, rh1 wm YX32_markedText 3 157 [(0, 2, 0), (1, 0, r), (2, 0, (j : Int)), (3, 0, 80 * r + j), (6, 0, y)] [] X1 P → rh1 wm YX32_markedText 3 109 [(0, 2, 0), (1, 0, r), (2, 0, (j : Int)), (3, 0, 80 * r + j)] [] B3 P := fun P K => by
            refine rh1.of (rX32_markedText_109 hm _ _ _ _ ?_)
            rw [e2, ← hy]
            refine ⟨⟨by omega, by omega⟩, ⟨by omega, by omega⟩, fun s hs => ?_⟩
            rw [hs]
            exact ⟨fun z => by have := y0 z; exact ⟨by omega, by omega⟩, fun z => by have := y0 z; exact ⟨by omega, by omega⟩, fun _ => rh1.s (vX32_markedText_154 hm E1 (LE0 rfl)) K, fun z => absurd (i1.mpr q1) z⟩
          by_cases q2 : bkE M r N j
          · obtain ⟨X2, E2, p2, g2⟩ := c_tag1 hm (a := 98) p1 (by rw [List.length_append]; show _ + 4 ≤ _; omega)
            rw [List.append_assoc] at p2
            refine ⟨X2, fun P K => to157 P ?_, by unfold hpo; rw [rh_if_f (by decide), rh_if_t q2]; exact p2, g1'.tr g2⟩
            refine rh1.of (rX32_markedText_157 hm _ _ _ _ _ ?_)
            refine ⟨fun z => by have := y0 z; exact ⟨by omega, by omega⟩, fun z => by have := y0 z; exact ⟨by omega, by omega⟩, fun _ => rh1.s (vX32_markedText_183 hm E2 (LE0 rfl)) ?_, fun z => absurd (i3.mpr q2) z⟩
            refine rh1.of (rX32_markedText_186 hm _ _ _ ?_)
            exact ⟨⟨by omega, by omega⟩, K⟩
          · refine ⟨X1, fun P K => to157 P ?_, by unfold hpo; rw [rh_if_f (by decide), rh_if_f q2, rh_if_t q1]; exact p1, g1'⟩
            refine rh1.of (rX32_markedText_157 hm _ _ _ _ _ ?_)
            exact ⟨fun z => by have := y0 z; exact ⟨by omega, by omega⟩, fun z => by have := y0 z; exact ⟨by omega, by omega⟩, fun z => absurd (i3.mp z) q2, fun _ => ⟨⟨by omega, by omega⟩, K⟩⟩
        · have q2 := S.e jN q1
          refine ⟨B3, fun P K => ?_, by unfold hpo; rw [rh_if_f (by decide), rh_if_f q2, rh_if_f q1, List.append_nil]; exact o3, f3⟩
          refine rh1.of (rX32_markedText_109 hm _ _ _ _ ?_)
          rw [e2, ← hy]
          refine ⟨⟨by omega, by omega⟩, ⟨by omega, by omega⟩, fun s hs => ?_⟩
          rw [hs]
          exact ⟨fun z => by have := y0 z; exact ⟨by omega, by omega⟩, fun z => by have := y0 z; exact ⟨by omega, by omega⟩, fun z => absurd (i1.mp z) q1, fun _ => ⟨fun z => by have := y0 z; exact ⟨by omega, by omega⟩, fun z => by have := y0 z; exact ⟨by omega, by omega⟩, fun z => absurd (i2.mp z) q2, fun _ => ⟨⟨by omega, by omega⟩, K⟩⟩⟩
      obtain ⟨B4, K4, o4, f4⟩ := post
      simp only [List.append_assoc] at o4
      obtain ⟨B', E', g1, g2⟩ := ih (j + 1) B4 (by omega) o4 f4
      exact ⟨B', fun P K => K2 P (rh1.s (vX32_markedText_106 hm E3 (LE0 rfl)) (K4 P (E' P K))), g1, g2⟩
  obtain ⟨B', E, g1, g2⟩ := key N 0 (rh_set B 0 177 0) (by omega) (by simp only [htx]; exact ⟨rh_set_s _ _ _ _, fun k k0 => absurd k0 (Nat.not_lt_zero _)⟩) (f.st (by unfold Fptx; omega))
  refine ⟨B', eC.of1 (rC1.of (by decide) (LE0 rfl) ?_), g1, g2⟩
  refine rh1.of (rX32_markedText_0 hm _ _ ?_)
  exact E _ ⟨rfl, rfl⟩
/-- what the texts need of a reading -/
theorem Rd_txt {Mh Mm : rhM} (R : RdA Mh Mm) (Q : RdB Mh Mm) (C : RdC Mh Mm) (O : RdO Mm) {r : Int} (hr : 0 ≤ r ∧ r < 4) (hw : Mm 113 r ≠ 0) : Wds Mm r (Mm 114 r) ∧ SmB Mm r (Mm 114 r) ∧ ∀ j : Int, 0 ≤ j → j < Mm 114 r → Nsm Mm (80 * r + j) := by
  obtain ⟨o1, o2, o3, o4⟩ := O r hr.1 hr.2 hw
  refine ⟨Wds.of R C hr.1 hr.2 hw, fun i j i0 i1 j0 j1 h => o4 i j i0 i1 j0 j1 h, fun j j0 j1 i hi => ?_⟩
  obtain ⟨p1, p2, p3, p4⟩ := o1 j j0 j1
  have i5 : i = 0 ∨ i = 1 ∨ i = 2 ∨ i = 3 ∨ i = 4 := by omega
  rcases i5 with rfl | rfl | rfl | rfl | rfl
  · show 0 ≤ Mm 115 (80 * r + j) ∧ Mm 115 (80 * r + j) ≤ 255
    omega
  · show 0 ≤ Mm 116 (80 * r + j) ∧ Mm 116 (80 * r + j) ≤ 255
    omega
  · show 0 ≤ Mm 117 (80 * r + j) ∧ Mm 117 (80 * r + j) ≤ 255
    omega
  · show 0 ≤ Mm 118 (80 * r + j) ∧ Mm 118 (80 * r + j) ≤ 255
    omega
  · show 0 ≤ Mm 122 (80 * r + j) ∧ Mm 122 (80 * r + j) ≤ 255
    have c0 := (C r hr.1 hr.2 hw j j0 j1).1.2
    obtain ⟨-, -, -, -, x5, -⟩ := Q r hr.1 hr.2 hw j j0 j1
    refine ⟨c0, ?_⟩
    rw [x5]
    by_cases q : Mm 123 (80 * r + j) = 1 ∨ Mm 121 (80 * r + j) = 1
    · rw [rh_if_t q]; decide
    · rw [rh_if_f q]
      by_cases q2 : Mm 124 (4 * (80 * r + j) + 1) - Mm 124 (4 * (80 * r + j) + 0) < 255
      · rw [rh_if_t q2]; omega
      · rw [rh_if_f q2]; decide
def Gtx (c j : Int) : Prop := (c = 0 ∧ (j = 0 ∨ j = 4 ∨ j = 177)) ∨ c = 2 ∨ c = 140
/-- the model's copy of its line -/
theorem m_txtC (hm : rh_ms wm) {B : rhM} {l : List Int} (h : Mox B l) (hl : l.length ≤ 6000) : ∃ B', (∀ P : Int → rhM → Prop, P (l.length : Int) B' → rh1 wm YX32_text 4 61 [(0, 2, 0), (3, 0, 0)] [] B P) ∧ B' 0 4 = l.length ∧ (∀ k : Int, 0 ≤ k → k < l.length → B' 2 k = l.getD k.toNat 0) ∧ frx (fun c j => (c = 0 ∧ j = 4) ∨ c = 2) B B' := by
  have key : ∀ (u k : Nat) (B1 : rhM), k + u = l.length → (∀ i : Int, 0 ≤ i → i < k → B1 2 i = l.getD i.toNat 0) → frx (fun c j => (c = 0 ∧ j = 4) ∨ c = 2) B B1 → ∃ B', (∀ P : Int → rhM → Prop, P (l.length : Int) B' → rh1 wm YX32_text 4 61 [(0, 2, 0), (3, 0, (k : Int))] [] B1 P) ∧ B' 0 4 = l.length ∧ (∀ k : Int, 0 ≤ k → k < l.length → B' 2 k = l.getD k.toNat 0) ∧ frx (fun c j => (c = 0 ∧ j = 4) ∨ c = 2) B B' := by
    intro u
    induction u with
    | zero =>
      intro k B1 hk h1 f1
      have e7 : B1 0 177 = l.length := by rw [f1 _ _ (by omega)]; exact h.1
      refine ⟨rh_set B1 0 4 l.length, fun P K => ?_, rh_set_s _ _ _ _, fun i i0 i1 => by rw [rh_set_a (by decide)]; exact h1 i i0 (by omega), f1.st (by omega)⟩
      refine rh1.of (rX32_text_61 hm _ _ ?_)
      rw [e7]
      refine ⟨fun z => by omega, fun _ M3 e3 => ?_⟩
      subst e3
      rw [rh_set_s]
      exact K
    | succ u ih =>
      intro k B1 hk h1 f1
      have e7 : B1 0 177 = l.length := by rw [f1 _ _ (by omega)]; exact h.1
      have e140 : B1 140 k = l.getD k 0 := by rw [f1 _ _ (by omega)]; exact h.2 k (by omega)
      obtain ⟨B', E, g1, g2, g3⟩ := ih (k + 1) (rh_set B1 2 k (l.getD k 0)) (by omega) (fun i i0 i1 => by
        by_cases z : i = k
        · rw [z, rh_set_s, Int.toNat_natCast]
        · rw [rh_set_j z]
          exact h1 i i0 (by omega)) (f1.st (by omega))
      refine ⟨B', fun P K => ?_, g1, g2, g3⟩
      refine rh1.of (rX32_text_61 hm _ _ ?_)
      rw [e7, e140]
      exact ⟨fun _ => ⟨⟨by omega, by omega⟩, ⟨by omega, by omega⟩, ⟨by omega, by omega⟩, E P K⟩, fun z => by omega⟩
  exact key l.length 0 B (by omega) (fun i i0 i1 => by omega) frx.rf
theorem op_text (hh : rh_hs wh) (hm : rh_ms wm) {Mh Mm : rhM} (U : Rou Mh Mm) (R : RdA Mh Mm) (Q : RdB Mh Mm) (C : RdC Mh Mm) (O : RdO Mm) (x1 x2 : Int) : rC2 wh YX1_text 8 [(2, 0), (0, x1), (0, x2)] Mh wm YX32_text 4 [(2, 0), (0, x1), (0, x2)] Mm (fun r M' r2 M2' => r = r2 ∧ Rou M' M2' ∧ frx Fou Mh M' ∧ frx Gtx Mm M2') := by
  have g0 : frx Gtx Mm (rh_set Mm 0 0 0) := frx.rf.st (by unfold Gtx; omega)
  have U0 : ∀ (A B : rhM), (∀ c j, (c = 5 ∨ (c = 4 ∧ j = 1)) → A c j = Mh c j) → (∀ c j, (c = 2 ∨ (c = 0 ∧ j = 4)) → B c j = Mm c j) → Rou A B := fun A B hA hB => by
    obtain ⟨u1, u2, u3, u4⟩ := U
    refine ⟨?_, ?_, ?_, ?_⟩
    · rw [hA 4 1 (by decide), hB 0 4 (by decide)]; exact u1
    · rw [hB 0 4 (by decide)]; exact u2
    · rw [hB 0 4 (by decide)]; exact u3
    · rw [hB 0 4 (by decide)]
      intro k k0 k1
      rw [hA 5 k (.inl rfl), hB 2 k (.inl rfl)]
      exact u4 k k0 k1
  have e113 : rh_set Mm 0 0 0 113 x1 = Mm 113 x1 := rh_set_a (by decide)
  by_cases c1 : (0 ≤ x1 ∧ x1 ≤ 3) ∧ Mm 113 x1 ≠ 0
  case neg =>
    refine ⟨-101, Mh, -101, rh_set Mm 0 0 0, eC.of1 (rC1.of (by decide) (LE0 rfl) ?_), eC.of1 (rC1.of (by decide) (LE0 rfl) ?_), rfl, U0 _ _ (fun _ _ _ => rfl) (fun c j h => by by_cases z : c = 0; rw [rh_set_j (by omega)]; rw [rh_set_a z]), frx.rf, g0⟩
    · refine rh1.of (rX1_text_0 hh _ _ _ ?_)
      refine ⟨⟨by omega, by omega⟩, fun _ => ⟨by omega, by omega⟩, fun _ => ⟨rfl, rfl⟩, fun z => absurd ?_ c1⟩
      have z := Classical.not_not.mp z
      exact ⟨⟨by omega, by omega⟩, (R x1 (by omega) (by omega)).1.mp z.2⟩
    · refine rh1.of (rX32_text_0 hm _ _ _ ?_)
      rw [e113]
      exact ⟨fun _ => ⟨by omega, by omega⟩, fun _ => ⟨rfl, rfl⟩, fun z => absurd (Classical.not_not.mp z) c1⟩
  obtain ⟨c1, hw⟩ := c1
  have hr : 0 ≤ x1 ∧ x1 < 4 := ⟨by omega, by omega⟩
  have hw0 : Mh (563 + 18 * x1) 0 ≠ 0 := (R x1 hr.1 hr.2).1.mpr hw
  by_cases c2 : (0 ≤ x2) ∧ (x2 ≤ 1)
  case neg =>
    refine ⟨-102, Mh, -102, rh_set Mm 0 0 0, eC.of1 (rC1.of (by decide) (LE0 rfl) ?_), eC.of1 (rC1.of (by decide) (LE0 rfl) ?_), rfl, U0 _ _ (fun _ _ _ => rfl) (fun c j h => by by_cases z : c = 0; rw [rh_set_j (by omega)]; rw [rh_set_a z]), frx.rf, g0⟩
    · refine rh1.of (rX1_text_0 hh _ _ _ ?_)
      exact ⟨⟨by omega, by omega⟩, fun _ => ⟨by omega, by omega⟩, fun z => absurd ⟨⟨by omega, by omega⟩, hw0⟩ z, fun _ => ⟨fun _ => ⟨rfl, rfl⟩, fun z => absurd c2 z⟩⟩
    · refine rh1.of (rX32_text_0 hm _ _ _ ?_)
      rw [e113]
      exact ⟨fun _ => ⟨by omega, by omega⟩, fun z => absurd ⟨c1, hw⟩ z, fun _ => ⟨fun _ => ⟨rfl, rfl⟩, fun z => absurd c2 z⟩⟩
  obtain ⟨W, S, NS⟩ := Rd_txt R Q C O hr hw
  obtain ⟨-, b2, -⟩ := (R x1 hr.1 hr.2).2 hw
  obtain ⟨N, hN⟩ : ∃ N : Nat, Mm 114 x1 = N := ⟨(Mm 114 x1).toNat, (by omega)⟩
  rw [hN] at W S NS b2
  obtain ⟨mk, hmk⟩ : ∃ mk, mk = rh_if (x2 = 1) (1 : Int) 0 := ⟨_, rfl⟩
  have mkv : (x2 = 0 ∧ mk = 0) ∨ (x2 = 1 ∧ mk = 1) := by
    by_cases z : x2 = 1
    · rw [rh_if_t z] at hmk; exact .inr ⟨z, hmk⟩
    · rw [rh_if_f z] at hmk; exact .inl ⟨by omega, hmk⟩
  obtain ⟨A, EA, oA, fA⟩ := h_write hh R Q C (mk := mk) hr hw hN W NS (A := Mh) (fun _ _ _ => rfl)
  -- the model's line
  have ML : ∃ B, (∀ P : Int → rhM → Prop, (6000 < B 0 177 → P (-104) B) → (¬ 6000 < B 0 177 → rh1 wm YX32_text 4 61 [(0, 2, 0), (3, 0, 0)] [] B P) → rh1 wm YX32_text 4 0 (rh_lo 0 [(2, 0), (0, x1), (0, x2)]) [] Mm P) ∧ Mox B (htx Mm x1 N mk N) ∧ frx Fptx Mm B := by
    have f00 : frx Fptx Mm (rh_set Mm 0 0 0) := frx.rf.st (by unfold Fptx; omega)
    rcases mkv with ⟨z, zm⟩ | ⟨z, zm⟩
    · obtain ⟨B, E, o, g⟩ := c_plain hm (M := Mm) hr (by omega) hN W S f00
      refine ⟨B, fun P h1 h2 => ?_, by rw [zm]; exact o, g⟩
      refine rh1.of (rX32_text_0 hm _ _ _ ?_)
      rw [e113]
      refine ⟨fun _ => ⟨by omega, by omega⟩, fun y => absurd ⟨c1, hw⟩ y, fun _ => ⟨fun y => absurd c2 y, fun _ => ⟨fun _ => rh1.s (vX32_text_35 hm E (LE0 rfl)) ?_, fun y => absurd z y⟩⟩⟩
      refine rh1.of (rX32_text_38 hm _ ?_)
      exact ⟨h1, h2⟩
    · obtain ⟨B, E, o, g⟩ := c_marked hm (M := Mm) hr (by omega) hN W NS S f00
      refine ⟨B, fun P h1 h2 => ?_, by rw [zm]; exact o, g⟩
      refine rh1.of (rX32_text_0 hm _ _ _ ?_)
      rw [e113]
      refine ⟨fun _ => ⟨by omega, by omega⟩, fun y => absurd ⟨c1, hw⟩ y, fun _ => ⟨fun y => absurd c2 y, fun _ => ⟨fun y => by omega, fun _ => rh1.s (vX32_text_43 hm E (LE0 rfl)) ?_⟩⟩⟩
      refine rh1.of (rX32_text_46 hm _ ?_)
      exact ⟨h1, h2⟩
  obtain ⟨B, KB, oB, fB⟩ := ML
  have HH : ∀ P : Int → rhM → Prop, rh1 wh YX1_text 8 44 [(0, 2, 0)] [] A P → rh1 wh YX1_text 8 0 (rh_lo 0 [(2, 0), (0, x1), (0, x2)]) [] Mh P := fun P K => by
    refine rh1.of (rX1_text_0 hh _ _ _ ?_)
    rw [← hmk]
    exact ⟨⟨by omega, by omega⟩, fun _ => ⟨by omega, by omega⟩, fun z => absurd ⟨⟨by omega, by omega⟩, hw0⟩ z, fun _ => ⟨fun z => absurd c2 z, fun _ => ⟨⟨by omega, by omega⟩, rh1.s (vX1_text_41 hh EA (LE0 rfl)) K⟩⟩⟩
  have ln := htx_l (M := Mm) (r := x1) (N := N) (mk := mk) (fun i i0 i1 => (W i i0 i1).1.2) N (by omega)
  have fA' : frx Fou Mh A := fA.w (fun c j h => by unfold Fdr at h; unfold Fou; omega)
  have fB' : frx Gtx Mm B := fB.w (fun c j h => by unfold Fptx at h; unfold Gtx; omega)
  have EE := c_end hh A oA.1 (by omega)
  by_cases big : 6000 < ((htx Mm x1 N mk N).length : Int)
  · refine ⟨-104, A, -104, B, eC.of1 (rC1.of (by decide) (LE0 rfl) (HH _ ?_)), eC.of1 (rC1.of (by decide) (LE0 rfl) (KB _ (fun _ => ⟨rfl, rfl⟩) (fun z => absurd (by rw [oB.1]; exact big) z))), rfl, U0 _ _ (fun c j h => fA _ _ (by unfold Fdr; omega)) (fun c j h => ?_), fA', fB'⟩
    · refine rh1.of (rX1_text_44 hh _ ?_)
      refine rh1.s (vX1_text_48 hh (EE.1 big) (LE0 rfl)) ?_
      refine rh1.of (rX1_text_51 hh _ _ ?_)
      exact ⟨rfl, rfl⟩
    · exact fB _ _ (by unfold Fptx; omega)
  · obtain ⟨B', E', b1, b2', b3⟩ := m_txtC hm oB (by omega)
    have al := Al.ht (mk := mk) W N (by omega)
    have WO : Wou A (fun k => (htx Mm x1 N mk N).getD k.toNat 0) (htx Mm x1 N mk N).length := ⟨oA.1, fun k k0 k1 => by
      have := oA.2 k.toNat (by omega) (by omega)
      rw [show ((k.toNat : Nat) : Int) = k by omega] at this
      exact this⟩
    refine ⟨_, m_end A (htx Mm x1 N mk N).length, _, B', eC.of1 (rC1.of (by decide) (LE0 rfl) (HH _ ?_)), eC.of1 (rC1.of (by decide) (LE0 rfl) (KB _ (fun z => absurd (by rw [← oB.1]; exact z) big) (fun _ => E' _ ⟨rfl, rfl⟩))), rfl, WO.fin ⟨by omega, by omega⟩ b1 (fun k k0 k1 => ⟨b2' k k0 k1, al.gd k.toNat (by omega)⟩), ?_, fB'.tr (b3.w (fun c j h => by unfold Gtx; omega))⟩
    · refine rh1.of (rX1_text_44 hh _ ?_)
      refine rh1.s (vX1_text_48 hh (EE.2 (by omega)) (LE0 rfl)) ?_
      refine rh1.of (rX1_text_51 hh _ _ ?_)
      exact ⟨rfl, rfl⟩
    · unfold m_end
      exact (fA'.cpy (fun j _ _ => by unfold Fou; omega)).st (by unfold Fou; omega)
end TxtP
