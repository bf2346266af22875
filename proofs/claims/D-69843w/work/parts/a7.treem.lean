/-! ===== LAYER 2: trees, the model ===== -/
section TreeM
variable {wh wm : rhW}
theorem c_countLetters (hm : rh_ms wm) {N : Nat} {nd lt G : Int → Int} {n : Int} (M : rhM) (T : Trd N nd lt G (M 0 89) (M 81) (M 64) (M 68)) :
    rC1 wm YX32_countLetters 0 [(2, 0), (0, n)] M (fun r M' => r = sqs (hrc nd lt n N) 128 ∧ frx (fun c _ => c = 82) M M' ∧ ∀ c, 0 ≤ c → c < 128 → M' 82 c = hrc nd lt n N c) := by
  refine rC1.of (by decide) (LE0 rfl) ?_
  obtain ⟨t0, t1, t2⟩ := T
  generalize hPost : (fun (r : Int) (M' : rhM) => r = sqs (hrc nd lt n N) 128 ∧ frx (fun c _ => c = 82) M M' ∧ ∀ c, 0 ≤ c → c < 128 → M' 82 c = hrc nd lt n N c) = Post
  have v : ∀ (m u : Nat) (A : rhM), u + m = 128 → frx (fun c _ => c = 82) M A → (∀ c, 0 ≤ c → c < 128 → A 82 c = hrc nd lt n N c) → rh1 wm YX32_countLetters 0 68 [(0, 2, 0), (2, 1, sqs (hrc nd lt n N) u), (4, 0, (u : Int))] [] A Post := by
    intro m
    induction m with
    | zero =>
      intro u A hu f hA
      refine rh1.of (rX32_countLetters_68 hm _ _ _ ?_)
      refine ⟨fun y => by omega, fun _ => ?_⟩
      rw [← hPost]
      rw [show u = 128 by omega]
      exact ⟨rfl, f, hA⟩
    | succ m ih =>
      intro u A hu f hA
      have cb : ∀ c, 0 ≤ hrc nd lt n N c ∧ hrc nd lt n N c ≤ 150 := fun c => by
        have := ctp_b (fun f => nd f = n ∧ lt f = c) N
        unfold hrc; omega
      have b1 := sqs_b (h := hrc nd lt n N) u (fun c _ _ => cb c)
      have p1 := mb2 (cb u).1 (cb u).2 (cb u).1 (cb u).2
      refine rh1.of (rX32_countLetters_68 hm _ _ _ ?_)
      rw [hA u (by omega) (by omega)]
      refine ⟨fun _ => ⟨⟨by omega, by omega⟩, ⟨by omega, by omega⟩, ?_⟩, fun y => by omega⟩
      rintro _ rfl
      exact ⟨⟨by omega, by omega⟩, ⟨by omega, by omega⟩, ih (u + 1) A (by omega) f hA⟩
  have w : ∀ (m j : Nat) (A : rhM), j + m = N → frx (fun c _ => c = 82) M A → (∀ c, 0 ≤ c → c < 128 → A 82 c = ctp (fun f => nd f = n ∧ lt f = c) j) → rh1 wm YX32_countLetters 0 24 [(0, 2, 0), (1, 0, n), (2, 0, (j : Int))] [] A Post := by
    intro m
    induction m with
    | zero =>
      intro j A hj f hA
      refine rh1.of (rX32_countLetters_24 hm _ _ _ ?_)
      rw [f 0 89 (by omega), t0]
      have e : j = N := (by omega)
      rw [e] at hA ⊢
      exact ⟨fun y => by omega, fun _ => v 128 0 A (by omega) f hA⟩
    | succ m ih =>
      intro j A hj f hA
      obtain ⟨g1, g2, g3, g4⟩ := t2 j (by omega) (by omega)
      have a1 := hA (lt j) (by omega) (by omega)
      have b1 := ctp_b (fun f => nd f = n ∧ lt f = lt j) j
      refine rh1.of (rX32_countLetters_24 hm _ _ _ ?_)
      rw [f 0 89 (by omega), t0, f 81 _ (by omega), g1, f 64 _ (by omega), g2, a1]
      refine ⟨fun _ => ⟨⟨by omega, by omega⟩, fun q => ⟨⟨by omega, by omega⟩, ⟨by omega, by omega⟩, ?_⟩, fun q => ⟨⟨by omega, by omega⟩, ?_⟩⟩, fun y => by omega⟩
      · rintro _ rfl
        refine ⟨⟨by omega, by omega⟩, ⟨by omega, by omega⟩, ⟨by omega, by omega⟩, ?_⟩
        exact ih (j + 1) _ (by omega) (f.st rfl) (fun c c0 c1 => by
          rw [hst_t (P := fun f => nd f = n) (lt := lt) q c]
          by_cases y : c = lt j
          · rw [if_pos y, y, rh_set_s]
          · rw [if_neg y, rh_set_j y]; exact hA c c0 c1)
      · exact ih (j + 1) A (by omega) f (fun c c0 c1 => by
          rw [hst_f (P := fun f => nd f = n) (lt := lt) q c]; exact hA c c0 c1)
  have z : ∀ (m : Nat) (c : Int) (A : rhM), c + m = 128 → 0 ≤ c → frx (fun c _ => c = 82) M A → (∀ j, 0 ≤ j → j < c → A 82 j = 0) → rh1 wm YX32_countLetters 0 2 [(0, 2, 0), (1, 0, n), (2, 0, c)] [] A Post := by
    intro m
    induction m with
    | zero =>
      intro c A hc c0 f hA
      refine rh1.of (rX32_countLetters_2 hm _ _ _ ?_)
      exact ⟨fun y => by omega, fun _ => w N 0 A (by omega) f (fun j j0 j1 => hA j j0 (by omega))⟩
    | succ m ih =>
      intro c A hc c0 f hA
      refine rh1.of (rX32_countLetters_2 hm _ _ _ ?_)
      refine ⟨fun _ => ⟨⟨by omega, by omega⟩, ⟨by omega, by omega⟩, ih (c + 1) _ (by omega) (by omega) (f.st rfl) (fun j j0 j1 => ?_)⟩, fun y => by omega⟩
      rw [rh_sets, if_pos rfl]
      split
      · rfl
      · exact hA j j0 (by omega)
  refine rh1.of (rX32_countLetters_0 hm _ _ ?_)
  exact z 128 0 M (by omega) (by omega) frx.rf (fun j j0 j1 => by omega)
theorem c_partSquares (hm : rh_ms wm) {N : Nat} {nd lt G : Int → Int} {n k v : Int} (hk : 0 ≤ k ∧ k < 19) (M : rhM) (T : Trd N nd lt G (M 0 89) (M 81) (M 64) (M 68)) (hX : ∀ c, 0 ≤ c → c < 128 → M 82 c = hrc nd lt n N c) :
    rC1 wm YX32_partSquares 0 [(2, 0), (0, n), (0, k), (0, v)] M (fun r M' => r = nNN nd lt (fun f => G (19 * f + k)) n N v ∧ M' 0 114 = lwr nd (fun f => G (19 * f + k)) n N v ∧ frx (fun c j => c = 83 ∨ (c = 0 ∧ j = 114)) M M') := by
  refine rC1.of (by decide) (LE0 rfl) ?_
  obtain ⟨t0, t1, t2⟩ := T
  generalize hPost : (fun (r : Int) (M' : rhM) => r = nNN nd lt (fun f => G (19 * f + k)) n N v ∧ M' 0 114 = lwr nd (fun f => G (19 * f + k)) n N v ∧ frx (fun c j => c = 83 ∨ (c = 0 ∧ j = 114)) M M') = Post
  have x : ∀ (m u : Nat) (A : rhM), u + m = 128 → frx (fun c j => c = 83 ∨ (c = 0 ∧ j = 114)) M A → A 0 114 = lwr nd (fun f => G (19 * f + k)) n N v → (∀ c, 0 ≤ c → c < 128 → A 83 c = lwc nd lt (fun f => G (19 * f + k)) n N v c) → rh1 wm YX32_partSquares 0 144 [(0, 2, 0), (4, 1, mny nd n N), (6, 1, sqs (lwc nd lt (fun f => G (19 * f + k)) n N v) u), (8, 1, sqs (fun c => hrc nd lt n N c - lwc nd lt (fun f => G (19 * f + k)) n N v c) u), (10, 0, (u : Int))] [] A Post := by
    intro m
    induction m with
    | zero =>
      intro u A hu f h114 hA
      have nb := nNN_b (nd := nd) (lt := lt) (ft := fun f => G (19 * f + k)) (n := n) v t1
      refine rh1.of (rX32_partSquares_144 hm _ _ _ _ _ ?_)
      rw [h114, show u = 128 by omega]
      refine ⟨fun y => by omega, fun _ => ?_⟩
      rw [← hPost]
      rw [show sqs (lwc nd lt (fun f => G (19 * f + k)) n N v) 128 * (mny nd n N - lwr nd (fun f => G (19 * f + k)) n N v) + sqs (fun c => hrc nd lt n N c - lwc nd lt (fun f => G (19 * f + k)) n N v c) 128 * lwr nd (fun f => G (19 * f + k)) n N v = nNN nd lt (fun f => G (19 * f + k)) n N v from rfl]
      exact ⟨⟨by omega, by omega⟩, rfl, h114, f⟩
    | succ m ih =>
      intro u A hu f h114 hA
      have b1 := sqs_b (h := lwc nd lt (fun f => G (19 * f + k)) n N v) u (fun c _ _ => (lwc_b v c t1).1)
      have b2 := sqs_b (h := fun c => hrc nd lt n N c - lwc nd lt (fun f => G (19 * f + k)) n N v c) u (fun c _ _ => (lwc_b v c t1).2)
      have l1 := (lwc_b (nd := nd) (lt := lt) (ft := fun f => G (19 * f + k)) (n := n) v (u : Int) t1).1
      have l2 := (lwc_b (nd := nd) (lt := lt) (ft := fun f => G (19 * f + k)) (n := n) v (u : Int) t1).2
      have p1 := mb2 l1.1 l1.2 l1.1 l1.2
      have p2 := mb2 l2.1 l2.2 l2.1 l2.2
      refine rh1.of (rX32_partSquares_144 hm _ _ _ _ _ ?_)
      rw [f 82 _ (by omega), hX u (by omega) (by omega), hA u (by omega) (by omega)]
      refine ⟨fun _ => ⟨⟨by omega, by omega⟩, ⟨by omega, by omega⟩, ?_⟩, fun y => by omega⟩
      rintro _ rfl
      refine ⟨⟨by omega, by omega⟩, ⟨by omega, by omega⟩, ⟨by omega, by omega⟩, ⟨by omega, by omega⟩, ?_⟩
      rintro _ rfl
      exact ⟨⟨by omega, by omega⟩, ⟨by omega, by omega⟩, ih (u + 1) A (by omega) f h114 hA⟩
  have w : ∀ (m j : Nat) (A : rhM), j + m = N → frx (fun c j => c = 83 ∨ (c = 0 ∧ j = 114)) M A → A 0 114 = ctp (fun f => nd f = n ∧ G (19 * f + k) ≤ v) j → (∀ c, 0 ≤ c → c < 128 → A 83 c = ctp (fun f => (nd f = n ∧ G (19 * f + k) ≤ v) ∧ lt f = c) j) → rh1 wm YX32_partSquares 0 36 [(0, 2, 0), (1, 0, n), (2, 0, k), (3, 0, v), (4, 1, ctp (fun f => nd f = n) j), (6, 0, (j : Int))] [] A Post := by
    intro m
    induction m with
    | zero =>
      intro j A hj f h114 hA
      refine rh1.of (rX32_partSquares_36 hm _ _ _ _ _ _ ?_)
      rw [f 0 89 (by omega), t0]
      have e : j = N := (by omega)
      rw [e] at hA h114 ⊢
      exact ⟨fun y => by omega, fun _ => x 128 0 A (by omega) f h114 hA⟩
    | succ m ih =>
      intro j A hj f h114 hA
      obtain ⟨g1, g2, g3, g4⟩ := t2 j (by omega) (by omega)
      have g5 := (g4 k hk.1 hk.2).1
      have a1 := hA (lt j) (by omega) (by omega)
      have b1 := ctp_b (fun f => (nd f = n ∧ G (19 * f + k) ≤ v) ∧ lt f = lt j) j
      have b2 := ctp_b (fun f => nd f = n ∧ G (19 * f + k) ≤ v) j
      have b3 := ctp_b (fun f => nd f = n) j
      have e114 : ∀ i y, rh_set A 83 i y 0 114 = A 0 114 := fun i y => rh_set_a (by omega)
      refine rh1.of (rX32_partSquares_36 hm _ _ _ _ _ _ ?_)
      rw [f 0 89 (by omega), t0, f 81 _ (by omega), g1, f 68 _ (by omega), g5, f 64 _ (by omega), g2, a1]
      refine ⟨fun _ => ⟨⟨by omega, by omega⟩, fun q => ⟨⟨by omega, by omega⟩, ⟨by omega, by omega⟩, ?_⟩, fun q => ⟨⟨by omega, by omega⟩, ?_⟩⟩, fun y => by omega⟩
      · by_cases q2 : G (19 * (j : Int) + k) ≤ v
        · rw [rh_if_t q2]
          rintro _ rfl
          refine ⟨⟨by omega, by omega⟩, ⟨by omega, by omega⟩, ?_⟩
          rw [rh_if_t (show (1 : Int) ≠ 0 by decide)]
          rintro _ rfl
          refine ⟨⟨by omega, by omega⟩, ⟨by omega, by omega⟩, ?_⟩
          rintro _ rfl
          rw [e114, h114]
          rintro _ rfl
          refine ⟨⟨by omega, by omega⟩, ⟨by omega, by omega⟩, ?_⟩
          have z := ih (j + 1) (rh_set (rh_set A 83 (lt j) (ctp (fun f => (nd f = n ∧ G (19 * f + k) ≤ v) ∧ lt f = lt j) j + 1)) 0 114 (ctp (fun f => nd f = n ∧ G (19 * f + k) ≤ v) j + 1)) (by omega) ((f.st (by omega)).st (by omega)) (by rw [rh_set_s, ctp_t (P := fun f => nd f = n ∧ G (19 * f + k) ≤ v) ⟨q, q2⟩]) (fun c c0 c1 => by
            rw [hst_t (P := fun f => nd f = n ∧ G (19 * f + k) ≤ v) (lt := lt) ⟨q, q2⟩ c, rh_set_a (by omega)]
            by_cases y : c = lt j
            · rw [if_pos y, y, rh_set_s]
            · rw [if_neg y, rh_set_j y]; exact hA c c0 c1)
          rw [ctp_t (P := fun f => nd f = n) q] at z
          exact z
        · rw [rh_if_f q2]
          rintro _ rfl
          refine ⟨⟨by omega, by omega⟩, ⟨by omega, by omega⟩, ?_⟩
          rw [rh_if_f (show ¬ ((0 : Int) ≠ 0) by decide)]
          rintro _ rfl
          refine ⟨⟨by omega, by omega⟩, ⟨by omega, by omega⟩, ?_⟩
          rintro _ rfl
          rw [e114, h114]
          rintro _ rfl
          refine ⟨⟨by omega, by omega⟩, ⟨by omega, by omega⟩, ?_⟩
          have z := ih (j + 1) (rh_set (rh_set A 83 (lt j) (ctp (fun f => (nd f = n ∧ G (19 * f + k) ≤ v) ∧ lt f = lt j) j + 0)) 0 114 (ctp (fun f => nd f = n ∧ G (19 * f + k) ≤ v) j + 0)) (by omega) ((f.st (by omega)).st (by omega)) (by rw [rh_set_s, ctp_f (P := fun f => nd f = n ∧ G (19 * f + k) ≤ v) (fun y => q2 y.2), Int.add_zero]) (fun c c0 c1 => by
            rw [hst_f (P := fun f => nd f = n ∧ G (19 * f + k) ≤ v) (lt := lt) (fun y => q2 y.2) c, rh_set_a (by omega)]
            by_cases y : c = lt j
            · rw [y, rh_set_s, Int.add_zero]
            · rw [rh_set_j y]; exact hA c c0 c1)
          rw [ctp_t (P := fun f => nd f = n) q] at z
          exact z
      · have z := ih (j + 1) A (by omega) f (by rw [h114, ctp_f (P := fun f => nd f = n ∧ G (19 * f + k) ≤ v) (fun y => q y.1)]) (fun c c0 c1 => by
          rw [hst_f (P := fun f => nd f = n ∧ G (19 * f + k) ≤ v) (lt := lt) (fun y => q y.1) c]; exact hA c c0 c1)
        rw [ctp_f (P := fun f => nd f = n) q] at z
        exact z
  have z : ∀ (m : Nat) (c : Int) (A : rhM), c + m = 128 → 0 ≤ c → frx (fun c j => c = 83 ∨ (c = 0 ∧ j = 114)) M A → (∀ j, 0 ≤ j → j < c → A 83 j = 0) → rh1 wm YX32_partSquares 0 3 [(0, 2, 0), (1, 0, n), (2, 0, k), (3, 0, v), (4, 0, c)] [] A Post := by
    intro m
    induction m with
    | zero =>
      intro c A hc c0 f hA
      refine rh1.of (rX32_partSquares_3 hm _ _ _ _ _ ?_)
      exact ⟨fun y => by omega, fun _ => w N 0 _ (by omega) (f.st (by omega)) (rh_set_s _ _ _ _) (fun j j0 j1 => by rw [rh_set_a (by omega)]; exact hA j j0 (by omega))⟩
    | succ m ih =>
      intro c A hc c0 f hA
      refine rh1.of (rX32_partSquares_3 hm _ _ _ _ _ ?_)
      refine ⟨fun _ => ⟨⟨by omega, by omega⟩, ⟨by omega, by omega⟩, ih (c + 1) _ (by omega) (by omega) (f.st (by omega)) (fun j j0 j1 => ?_)⟩, fun y => by omega⟩
      rw [rh_sets, if_pos rfl]
      split
      · rfl
      · exact hA j j0 (by omega)
  refine rh1.of (rX32_partSquares_0 hm _ _ _ _ ?_)
  exact z 128 0 M (by omega) (by omega) frx.rf (fun j j0 j1 => by omega)
/-- the next value -/
noncomputable def mnv (nd ft : Int → Int) (n v : Int) : Nat → Int
  | 0 => 1000000
  | j + 1 => rh_if (nd j = n ∧ v < ft j) (rh_if (mnv nd ft n v j < ft j) (mnv nd ft n v j) (ft j)) (mnv nd ft n v j)
theorem mnv_b {nd ft : Int → Int} {n v : Int} : ∀ j : Nat, mnv nd ft n v j ≤ 1000000 ∧ (mnv nd ft n v j = 1000000 ∨ ∃ g : Int, 0 ≤ g ∧ g < j ∧ nd g = n ∧ v < ft g ∧ ft g = mnv nd ft n v j) ∧ ∀ g : Int, 0 ≤ g → g < j → nd g = n → v < ft g → mnv nd ft n v j ≤ ft g
  | 0 => ⟨by simp [mnv], .inl rfl, fun g a b => by omega⟩
  | j + 1 => by
    obtain ⟨h1, h2, h3⟩ := mnv_b (nd := nd) (ft := ft) (n := n) (v := v) j
    have h2' : mnv nd ft n v j = 1000000 ∨ ∃ g : Int, 0 ≤ g ∧ g < ((j + 1 : Nat) : Int) ∧ nd g = n ∧ v < ft g ∧ ft g = mnv nd ft n v j := h2.imp id (fun ⟨g, a, b, c⟩ => ⟨g, a, (by omega), c⟩)
    simp only [mnv]
    by_cases q : nd j = n ∧ v < ft j
    · rw [rh_if_t q]
      by_cases y : mnv nd ft n v j < ft j
      · rw [rh_if_t y]
        refine ⟨h1, h2', fun g a b c d => ?_⟩
        by_cases e : g = j
        · rw [e]; omega
        · exact h3 g a (by omega) c d
      · rw [rh_if_f y]
        refine ⟨by omega, .inr ⟨j, (by omega), (by omega), q.1, q.2, rfl⟩, fun g a b c d => ?_⟩
        by_cases e : g = j
        · rw [e]; omega
        · have := h3 g a (by omega) c d; omega
    · rw [rh_if_f q]
      refine ⟨h1, h2', fun g a b c d => ?_⟩
      by_cases e : g = j
      · rw [e] at c d; exact absurd ⟨c, d⟩ q
      · exact h3 g a (by omega) c d
theorem m_next (hm : rh_ms wm) {N : Nat} {nd lt G : Int → Int} {n k v my t b : Int} (hk : 0 ≤ k ∧ k < 19) (A : rhM) (T : Trd N nd lt G (A 0 89) (A 81) (A 64) (A 68)) :
    eS wm YX32_findQuestion 1 44 [(0, 2, 0), (1, 0, n), (2, 0, my), (3, 1, t), (5, 1, b), (7, 0, k), (8, 0, v), (10, 0, 1000000), (11, 0, 0)] [] A 44 [(0, 2, 0), (1, 0, n), (2, 0, my), (3, 1, t), (5, 1, b), (7, 0, k), (8, 0, v), (10, 0, mnv nd (fun f => G (19 * f + k)) n v N), (11, 0, (N : Int))] [] A := by
  obtain ⟨t0, t1, t2⟩ := T
  have q : ∀ (m j : Nat), j + m = N → eS wm YX32_findQuestion 1 44 [(0, 2, 0), (1, 0, n), (2, 0, my), (3, 1, t), (5, 1, b), (7, 0, k), (8, 0, v), (10, 0, mnv nd (fun f => G (19 * f + k)) n v j), (11, 0, (j : Int))] [] A 44 [(0, 2, 0), (1, 0, n), (2, 0, my), (3, 1, t), (5, 1, b), (7, 0, k), (8, 0, v), (10, 0, mnv nd (fun f => G (19 * f + k)) n v N), (11, 0, (N : Int))] [] A := by
    intro m
    induction m with
    | zero =>
      intro j hj
      rw [show j = N by omega]
      exact eS.rf
    | succ m ih =>
      intro j hj
      obtain ⟨g1, g2, g3, g4⟩ := t2 j (by omega) (by omega)
      have g5 := (g4 k hk.1 hk.2).1
      refine eS.of (fun P HP => ?_)
      refine rh1.of (rX32_findQuestion_44 hm _ _ _ _ _ _ _ _ _ ?_)
      rw [t0, g1, g5]
      refine ⟨fun _ => ⟨⟨by omega, by omega⟩, ?_⟩, fun y => by omega⟩
      rintro _ rfl
      refine ⟨⟨by omega, by omega⟩, ?_⟩
      rintro _ rfl
      refine ⟨⟨by omega, by omega⟩, ?_⟩
      exact rh1.s (ih (j + 1) (by omega)) HP
  exact q N 0 (by omega)
theorem m_feat (hm : rh_ms wm) {N : Nat} {nd lt G : Int → Int} {n my k t0 b0 : Int} (hk : 0 ≤ k ∧ k < 19) (M : rhM) (T : Trd N nd lt G (M 0 89) (M 81) (M 64) (M 68)) (hX : ∀ c, 0 ≤ c → c < 128 → M 82 c = hrc nd lt n N c) (hmy : my = mny nd n N) (h0 : 0 ≤ t0 ∧ t0 ≤ 864000000) (h1 : 0 < b0 ∧ b0 ≤ 22500) (he : M 0 112 ≠ k) :
    ∃ t b A, eS wm YX32_findQuestion 1 18 [(0, 2, 0), (1, 0, n), (2, 0, my), (3, 1, t0), (5, 1, b0), (7, 0, k)] [] M 18 [(0, 2, 0), (1, 0, n), (2, 0, my), (3, 1, t), (5, 1, b), (7, 0, k + 1)] [] A ∧ frx (fun c j => c = 83 ∨ (c = 0 ∧ 112 ≤ j ∧ j ≤ 114)) M A ∧ Spt (Cnd nd (fun f => G (19 * f + k)) n N N) (nNN nd lt (fun f => G (19 * f + k)) n N) (nBB nd (fun f => G (19 * f + k)) n N) k t0 b0 (M 0 112) (M 0 113) t b (A 0 112) (A 0 113) := by
  have T1 := T.2.1
  have T2 := T.2.2
  have q : ∀ (z : Nat) (v : Int) (A : rhM) (t b : Int), (1000000 - v).toNat = z → -1 ≤ v → v < 1000000 → frx (fun c j => c = 83 ∨ (c = 0 ∧ 112 ≤ j ∧ j ≤ 114)) M A → Spt (fun x => x ≤ v ∧ Cnd nd (fun f => G (19 * f + k)) n N N x) (nNN nd lt (fun f => G (19 * f + k)) n N) (nBB nd (fun f => G (19 * f + k)) n N) k t0 b0 (M 0 112) (M 0 113) t b (A 0 112) (A 0 113) → ∃ t' b' A', eS wm YX32_findQuestion 1 31 [(0, 2, 0), (1, 0, n), (2, 0, my), (3, 1, t), (5, 1, b), (7, 0, k), (8, 0, v), (9, 0, 1)] [] A 18 [(0, 2, 0), (1, 0, n), (2, 0, my), (3, 1, t'), (5, 1, b'), (7, 0, k + 1)] [] A' ∧ frx (fun c j => c = 83 ∨ (c = 0 ∧ 112 ≤ j ∧ j ≤ 114)) M A' ∧ Spt (Cnd nd (fun f => G (19 * f + k)) n N N) (nNN nd lt (fun f => G (19 * f + k)) n N) (nBB nd (fun f => G (19 * f + k)) n N) k t0 b0 (M 0 112) (M 0 113) t' b' (A' 0 112) (A' 0 113) := by
    intro z
    induction z using Nat.strongRecOn with
    | ind z ih =>
      intro v A t b hz v0 v1 f S
      have T' : Trd N nd lt G (A 0 89) (A 81) (A 64) (A 68) := ⟨by rw [f _ _ (by omega)]; exact T.1, T1, fun i i0 i1 => by rw [f.cell (a := 81) (fun j => (by omega)), f.cell (a := 64) (fun j => (by omega)), f.cell (a := 68) (fun j => (by omega))]; exact T2 i i0 i1⟩
      have EN := m_next hm (n := n) (v := v) (my := my) (t := t) (b := b) hk A T'
      have mb := mnv_b (nd := nd) (ft := fun f => G (19 * f + k)) (n := n) (v := v) N
      generalize mnv nd (fun f => G (19 * f + k)) n v N = y at *
      obtain ⟨m1, m2, m3⟩ := mb
      by_cases q1 : y < 1000000
      · obtain ⟨r1, A1, E1, er, e114, f1⟩ := c_partSquares hm (n := n) (v := y) hk A T' (fun c c0 c1 => by rw [f _ _ (by omega)]; exact hX c c0 c1)
        obtain ⟨g, g0, g1, g2, g3, g4⟩ := m2.resolve_left (by omega)
        have F1 : frx (fun c j => c = 83 ∨ (c = 0 ∧ 112 ≤ j ∧ j ≤ 114)) M A1 := f.tr (f1.w (fun c j h => by omega))
        have lb := lwr_b (nd := nd) (ft := fun f => G (19 * f + k)) (n := n) y T1
        have hC : ∀ x, (x ≤ v ∧ Cnd nd (fun f => G (19 * f + k)) n N N x) → 0 < nBB nd (fun f => G (19 * f + k)) n N x := fun x hx => hx.2.p (Int.le_refl _)
        have bd := S.bd T1 hC h0 h1
        have nb := nNN_b (nd := nd) (lt := lt) (ft := fun f => G (19 * f + k)) (n := n) y T1
        have bb := nBB_b (nd := nd) (ft := fun f => G (19 * f + k)) (n := n) y T1
        have eB : lwr nd (fun f => G (19 * f + k)) n N y * (my - lwr nd (fun f => G (19 * f + k)) n N y) = nBB nd (fun f => G (19 * f + k)) n N y := by rw [hmy]; rfl
        have p1 := mb2 nb.1 nb.2 (show 0 ≤ b by omega) bd.2.2
        have p2 := mb2 bd.1.1 bd.1.2 bb.1 bb.2
        have a12 : A1 0 112 = A 0 112 := f1 _ _ (by omega)
        have a13 : A1 0 113 = A 0 113 := f1 _ _ (by omega)
        have y0 : v < y := by omega
        have up : ∀ x, (x ≤ y ∧ Cnd nd (fun f => G (19 * f + k)) n N N x) → (x ≤ v ∧ Cnd nd (fun f => G (19 * f + k)) n N N x) ∨ x = y := fun x hx => by
          by_cases c : x ≤ v
          · exact .inl ⟨c, hx.2⟩
          · obtain ⟨i, i0, i1, i2, i3, i4⟩ := hx.2
            have i3' : G (19 * i + k) = x := i3
            have := m3 i i0 i1 i2 (show v < G (19 * i + k) by omega)
            have this' : y ≤ G (19 * i + k) := this
            exact .inr (by have := hx.1; omega)
        by_cases q2 : lwr nd (fun f => G (19 * f + k)) n N y < my
        · have cy : Cnd nd (fun f => G (19 * f + k)) n N N y := ⟨g, g0, g1, g2, g4, by omega⟩
          have hx := cy.p (Int.le_refl _)
          have cup : ∀ x, (x ≤ y ∧ Cnd nd (fun f => G (19 * f + k)) n N N x) ↔ ((x ≤ v ∧ Cnd nd (fun f => G (19 * f + k)) n N N x) ∨ x = y) := fun x => ⟨up x, fun h => h.elim (fun h => ⟨by omega, h.2⟩) (fun h => by rw [h]; exact ⟨Int.le_refl _, cy⟩)⟩
          by_cases q3 : t * nBB nd (fun f => G (19 * f + k)) n N y < nNN nd lt (fun f => G (19 * f + k)) n N y * b
          · obtain ⟨t', b', A', E, f', S'⟩ := ih _ (by omega) y (rh_set (rh_set A1 0 112 k) 0 113 y) _ _ rfl (by omega) q1 ((F1.st (by omega)).st (by omega)) (by
              have := S.new h1.1 hC hx he (.inl q3) cup
              rw [rh_set_s, rh_set_j (by omega), rh_set_s]; exact this)
            refine ⟨t', b', A', eS.of (fun P HP => ?_), f', S'⟩
            refine rh1.of (rX32_findQuestion_31 hm _ _ _ _ _ _ _ _ ?_)
            refine ⟨fun _ => ?_, fun u => absurd (show (1 : Int) ≠ 0 by decide) u⟩
            refine rh1.s EN ?_
            refine rh1.of (rX32_findQuestion_44 hm _ _ _ _ _ _ _ _ _ ?_)
            rw [T'.1]
            refine ⟨fun u => by omega, fun _ => ?_⟩
            rw [rh_if_t q1]
            rintro _ rfl
            refine ⟨fun _ => ?_, fun u => absurd (show (1 : Int) ≠ 0 by decide) u⟩
            refine rh1.s (vX32_findQuestion_136 hm E1 (LE0 rfl)) ?_
            refine rh1.of (rX32_findQuestion_139 hm _ _ _ _ _ _ _ _ _ ?_)
            rw [e114, er, eB]
            intro x0 hx0
            rw [hx0]
            refine ⟨⟨by omega, by omega⟩, fun _ => ⟨by omega, by omega⟩, fun _ => ⟨by omega, by omega⟩, fun _ => rh1.s E HP, fun u => absurd ⟨q2, q3⟩ u⟩
          · obtain ⟨t', b', A', E, f', S'⟩ := ih _ (by omega) y A1 t b rfl (by omega) q1 F1 (by
              rw [a12, a13]
              refine S.old q3 (fun a b => ?_) cup
              rcases S with ⟨-, -, s1, -⟩ | ⟨-, s1, -⟩
              · exact absurd (s1.symm.trans a) he
              · have := s1.1; omega)
            refine ⟨t', b', A', eS.of (fun P HP => ?_), f', S'⟩
            refine rh1.of (rX32_findQuestion_31 hm _ _ _ _ _ _ _ _ ?_)
            refine ⟨fun _ => ?_, fun u => absurd (show (1 : Int) ≠ 0 by decide) u⟩
            refine rh1.s EN ?_
            refine rh1.of (rX32_findQuestion_44 hm _ _ _ _ _ _ _ _ _ ?_)
            rw [T'.1]
            refine ⟨fun u => by omega, fun _ => ?_⟩
            rw [rh_if_t q1]
            rintro _ rfl
            refine ⟨fun _ => ?_, fun u => absurd (show (1 : Int) ≠ 0 by decide) u⟩
            refine rh1.s (vX32_findQuestion_136 hm E1 (LE0 rfl)) ?_
            refine rh1.of (rX32_findQuestion_139 hm _ _ _ _ _ _ _ _ _ ?_)
            rw [e114, er, eB]
            intro x0 hx0
            rw [hx0]
            refine ⟨⟨by omega, by omega⟩, fun _ => ⟨by omega, by omega⟩, fun _ => ⟨by omega, by omega⟩, fun u => absurd u.2 q3, fun _ => rh1.s E HP⟩
        · obtain ⟨t', b', A', E, f', S'⟩ := ih _ (by omega) y A1 t b rfl (by omega) q1 F1 (by
            rw [a12, a13]
            refine S.cg (fun x => ⟨fun h => ?_, fun h => ⟨by omega, h.2⟩⟩)
            rcases up x h with u | u
            · exact u
            · obtain ⟨_, i⟩ := h
              obtain ⟨_, _, _, _, _, i4⟩ := i
              rw [u] at i4
              omega)
          refine ⟨t', b', A', eS.of (fun P HP => ?_), f', S'⟩
          refine rh1.of (rX32_findQuestion_31 hm _ _ _ _ _ _ _ _ ?_)
          refine ⟨fun _ => ?_, fun u => absurd (show (1 : Int) ≠ 0 by decide) u⟩
          refine rh1.s EN ?_
          refine rh1.of (rX32_findQuestion_44 hm _ _ _ _ _ _ _ _ _ ?_)
          rw [T'.1]
          refine ⟨fun u => by omega, fun _ => ?_⟩
          rw [rh_if_t q1]
          rintro _ rfl
          refine ⟨fun _ => ?_, fun u => absurd (show (1 : Int) ≠ 0 by decide) u⟩
          refine rh1.s (vX32_findQuestion_136 hm E1 (LE0 rfl)) ?_
          refine rh1.of (rX32_findQuestion_139 hm _ _ _ _ _ _ _ _ _ ?_)
          rw [e114, er, eB]
          intro x0 hx0
          rw [hx0]
          refine ⟨⟨by omega, by omega⟩, fun _ => ⟨by omega, by omega⟩, fun _ => ⟨by omega, by omega⟩, fun u => absurd u.1 q2, fun _ => rh1.s E HP⟩
      · refine ⟨t, b, A, eS.of (fun P HP => ?_), f, S.cg (fun x => ⟨fun h => ⟨?_, h⟩, fun h => h.2⟩)⟩
        · refine rh1.of (rX32_findQuestion_31 hm _ _ _ _ _ _ _ _ ?_)
          refine ⟨fun _ => ?_, fun u => absurd (show (1 : Int) ≠ 0 by decide) u⟩
          refine rh1.s EN ?_
          refine rh1.of (rX32_findQuestion_44 hm _ _ _ _ _ _ _ _ _ ?_)
          rw [T'.1]
          refine ⟨fun u => by omega, fun _ => ?_⟩
          rw [rh_if_f q1]
          rintro _ rfl
          refine ⟨fun u => absurd rfl u, fun _ => ?_⟩
          refine rh1.of (rX32_findQuestion_31 hm _ _ _ _ _ _ _ _ ?_)
          exact ⟨fun u => absurd rfl u, fun _ => ⟨⟨by omega, by omega⟩, HP⟩⟩
        · obtain ⟨i, i0, i1, i2, i3, i4⟩ := h
          have i3' : G (19 * i + k) = x := i3
          have i5 := ((T2 i i0 i1).2.2.2 k hk.1 hk.2).2
          by_cases c : x ≤ v
          · exact c
          · have := m3 i i0 i1 i2 (show v < G (19 * i + k) by omega)
            have this' : y ≤ G (19 * i + k) := this
            omega
  obtain ⟨t, b, A, E, f, S⟩ := q _ (-1) M t0 b0 rfl (by omega) (by omega) frx.rf (.inl ⟨rfl, rfl, rfl, rfl, fun v hv => by
    obtain ⟨hv0, i, i0, i1, i2, i3, i4⟩ := hv
    have i3' : G (19 * i + k) = v := i3
    have i5 := ((T2 i i0 i1).2.2.2 k hk.1 hk.2).2
    omega⟩)
  refine ⟨t, b, A, eS.of (fun P HP => ?_), f, S⟩
  refine rh1.of (rX32_findQuestion_18 hm _ _ _ _ _ _ ?_)
  exact ⟨fun _ => rh1.s E HP, fun y => by omega⟩
end TreeM
