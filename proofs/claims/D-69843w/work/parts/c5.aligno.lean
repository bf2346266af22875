/-! ===== LAYER 2: layBeside and alignWords: the pairs ===== -/
section AlignO
variable {wh wm : rhW}
theorem m_tail (hm : rh_ms wm) (B : rhM) : ∀ (m : Nat) (j : Int), j = m → j ≤ 80 → ∀ P : Int → rhM → Prop, P 0 B → rh1 wm YX32_alignWords 1 220 [(0, 2, 0), (2, 0, 0), (3, 0, j)] [] B P := by
  intro m
  induction m with
  | zero =>
    intro j hj j1 P HP
    refine rh1.of (rX32_alignWords_220 hm _ _ _ ?_)
    exact ⟨fun z => by omega, fun _ => HP⟩
  | succ m ih =>
    intro j hj j1 P HP
    refine rh1.of (rX32_alignWords_220 hm _ _ _ ?_)
    refine ⟨fun _ => ⟨⟨by omega, by omega⟩, ?_⟩, fun z => absurd (show (0 : Int) < 0 ∨ 0 < j from .inr (by omega)) z⟩
    intro x hx
    refine ⟨fun z => by omega, fun z => by omega, fun z => by omega, fun z => by omega, fun z => by omega, fun z => by omega, fun _ => ?_⟩
    have no : ∀ {p : Prop}, ¬ ((0 : Int) < 0 ∧ p) := fun z => by have := z.1; omega
    rw [rh_if_f no, rh_if_f no, show j + -1 = j - 1 by omega]
    exact ⟨fun z => by omega, fun z => by omega, fun z => by omega, fun z => by omega, fun _ => ⟨by omega, by omega⟩, ih (j - 1) (by omega) (by omega) P HP⟩
theorem t_trace (hh : rh_hs wh) (hm : rh_ms wm) {R S : Int → Int} {n g : Int} (hn : 0 ≤ n ∧ n ≤ 80) (hg : 0 ≤ g ∧ g ≤ 80) (hR : ∀ i, 0 ≤ i → i < n → 0 ≤ R i ∧ R i ≤ 130) (hS : ∀ j, 0 ≤ j → j < g → 0 ≤ S j ∧ S j ≤ 12) (A0 B0 : rhM) (h1 : ∀ i, 0 ≤ i → i < n → A0 241 i = R i) (h2 : ∀ j, 0 ≤ j → j < g → A0 240 j = S j) (k1 : ∀ i, 0 ≤ i → i < n → B0 72 i = R i) (k2 : ∀ j, 0 ≤ j → j < g → B0 71 j = S j) (T : Ttb (aL R S) (g + 1) g (A0 242) (n + 1) 0) (U : Ttb (aL R S) 81 g (B0 73) (n + 1) 0) : ∀ (m : Nat) (i j : Int) (A B : rhM), i + j = m → 0 ≤ i → i ≤ n → 0 ≤ j → j ≤ g → frx (fun c _ => c = 243) A0 A → frx (fun c _ => c = 74) B0 B → (∀ k, i ≤ k → k < n → A 243 k = B 74 k ∧ (B 74 k = -1 ∨ (0 ≤ B 74 k ∧ B 74 k < g))) → (∀ k, 0 ≤ k → k < i → B 74 k = -1) →
    ∃ A' B', (∀ P : Int → rhM → Prop, P 0 A' → rh1 wh YX1_layBeside 1 203 [(0, 2, 0), (2, 0, g + 1), (3, 0, i), (4, 0, j)] [] A P) ∧ (∀ P : Int → rhM → Prop, P 0 B' → rh1 wm YX32_alignWords 1 220 [(0, 2, 0), (2, 0, i), (3, 0, j)] [] B P) ∧ frx (fun c _ => c = 243) A0 A' ∧ frx (fun c _ => c = 74) B0 B' ∧ ∀ k, 0 ≤ k → k < n → A' 243 k = B' 74 k ∧ (B' 74 k = -1 ∨ (0 ≤ B' 74 k ∧ B' 74 k < g)) := by
  have Bw : ∀ c, 0 ≤ c → c ≤ 80 → 0 ≤ (g + 1) * c ∧ (g + 1) * c ≤ 6480 := fun c c0 c1 => by
    have := mb2 (a := g + 1) (b := c) (A := 81) (B := 80) (by omega) (by omega) (by omega) (by omega)
    omega
  have bd : ∀ i j, 0 ≤ i → i ≤ n → 0 ≤ j → j ≤ g → 0 ≤ aL R S i j ∧ aL R S i j ≤ 130 * i + 12 * j := fun i j i0 i1 j0 j1 => aL_b hR hS (i + j).toNat i j (by omega) i0 i1 j0 j1
  intro m
  induction m using Nat.strongRecOn with
  | ind m ih =>
    intro i j A B hm' i0 i1 j0 j1 fA fB hP hQ
    by_cases a : i = 0
    · refine ⟨A, B, fun P HP => ?_, fun P HP => ?_, fA, fB, fun k k0 k1 => hP k (by omega) k1⟩
      · refine rh1.of (rX1_layBeside_203 hh _ _ _ _ ?_)
        exact ⟨fun z => by omega, fun _ => HP⟩
      · rw [a]
        exact m_tail hm B j.toNat j (by omega) (by omega) P HP
    · have bi := Bw i (by omega) (by omega)
      have bp := Bw (i - 1) (by omega) (by omega)
      have r' := hR (i - 1) (by omega) (by omega)
      have eA : ∀ c k, c ≠ 243 → A c k = A0 c k := fun c k h => fA c k h
      have eB : ∀ c k, c ≠ 74 → B c k = B0 c k := fun c k h => fB c k h
      have t1 : A 242 ((g + 1) * i + j) = aL R S i j := by rw [eA 242 _ (by decide)]; exact T i j (by omega) (by omega) (by omega) (by omega)
      have t2 : A 242 ((g + 1) * (i - 1) + j) = aL R S (i - 1) j := by rw [eA 242 _ (by decide)]; exact T (i - 1) j (by omega) (by omega) (by omega) (by omega)
      have u1 : B 73 (81 * i + j) = aL R S i j := by rw [eB 73 _ (by decide)]; exact U i j (by omega) (by omega) (by omega) (by omega)
      have u2 : B 73 (81 * (i - 1) + j) = aL R S (i - 1) j := by rw [eB 73 _ (by decide)]; exact U (i - 1) j (by omega) (by omega) (by omega) (by omega)
      have v1 : A 241 (i - 1) = R (i - 1) := by rw [eA 241 _ (by decide)]; exact h1 _ (by omega) (by omega)
      have v2 : B 72 (i - 1) = R (i - 1) := by rw [eB 72 _ (by decide)]; exact k1 _ (by omega) (by omega)
      have b1 := bd i j (by omega) (by omega) (by omega) (by omega)
      have b2 := bd (i - 1) j (by omega) (by omega) (by omega) (by omega)
      have cnt : ∀ (v : Int) (A1 B1 : rhM), (v = -1 ∨ (0 ≤ v ∧ v < g)) → frx (fun c _ => c = 243) A0 A1 → frx (fun c _ => c = 74) B0 B1 → (∀ k, A1 243 k = if k = i - 1 then v else A 243 k) → (∀ k, B1 74 k = if k = i - 1 then v else B 74 k) → (∀ k, i - 1 ≤ k → k < n → A1 243 k = B1 74 k ∧ (B1 74 k = -1 ∨ (0 ≤ B1 74 k ∧ B1 74 k < g))) ∧ ∀ k, 0 ≤ k → k < i - 1 → B1 74 k = -1 := fun v A1 B1 hv fA1 fB1 a1 c1 => ⟨fun k k0 k1 => by
        rw [a1, c1]
        by_cases e : k = i - 1
        · rw [if_pos e, if_pos e]; exact ⟨rfl, hv⟩
        · rw [if_neg e, if_neg e]; exact hP k (by omega) k1, fun k k0 k1 => by rw [c1, if_neg (by omega)]; exact hQ k k0 (by omega)⟩
      have down : aL R S i j = aL R S (i - 1) j + R (i - 1) → (¬ (0 < j ∧ aL R S i j = aL R S (i - 1) (j - 1) + gp (R (i - 1)) (S (j - 1)))) → ∃ A' B', (∀ P : Int → rhM → Prop, P 0 A' → rh1 wh YX1_layBeside 1 203 [(0, 2, 0), (2, 0, g + 1), (3, 0, i - 1), (4, 0, j)] [] (rh_set A 243 (i - 1) (-1)) P) ∧ (∀ P : Int → rhM → Prop, P 0 B' → rh1 wm YX32_alignWords 1 220 [(0, 2, 0), (2, 0, i - 1), (3, 0, j)] [] B P) ∧ frx (fun c _ => c = 243) A0 A' ∧ frx (fun c _ => c = 74) B0 B' ∧ ∀ k, 0 ≤ k → k < n → A' 243 k = B' 74 k ∧ (B' 74 k = -1 ∨ (0 ≤ B' 74 k ∧ B' 74 k < g)) := fun _ _ => by
        obtain ⟨c1, c2⟩ := cnt (-1) (rh_set A 243 (i - 1) (-1)) B (.inl rfl) (fA.st rfl) fB (fun k => by rw [rh_set_f]; rfl) (fun k => by
          by_cases e : k = i - 1
          · rw [if_pos e, e]; exact hQ _ (by omega) (by omega)
          · rw [if_neg e])
        exact ih (m - 1) (by omega) (i - 1) j (rh_set A 243 (i - 1) (-1)) B (by omega) (by omega) (by omega) (by omega) (by omega) (fA.st rfl) fB c1 c2
      by_cases b : j = 0
      · have d : aL R S i j = aL R S (i - 1) j + R (i - 1) := by rw [b]; exact aL_s0 (by omega)
        obtain ⟨A', B', E1, E2, r⟩ := down d (fun z => by omega)
        refine ⟨A', B', fun P HP => ?_, fun P HP => ?_, r⟩
        · refine rh1.of (rX1_layBeside_203 hh _ _ _ _ ?_)
          rw [t1, t2, v1, show i + -1 = i - 1 by omega]
          refine ⟨fun _ => ⟨⟨by omega, by omega⟩, ?_⟩, fun z => by omega⟩
          intro x hx
          rw [hx]
          exact ⟨fun z => by omega, fun z => by omega, fun z => by omega, fun z => by omega, fun z => by omega, fun z => by omega, fun z => by omega, fun _ => ⟨⟨by omega, by omega⟩, ⟨by omega, by omega⟩, ⟨by omega, by omega⟩, fun _ => ⟨⟨by omega, by omega⟩, ⟨by omega, by omega⟩, E1 P HP⟩, fun z => absurd d z⟩⟩
        · refine rh1.of (rX32_alignWords_220 hm _ _ _ ?_)
          rw [u1, u2, v2, show i + -1 = i - 1 by omega]
          refine ⟨fun _ => ⟨⟨by omega, by omega⟩, ?_⟩, fun z => absurd (show 0 < i ∨ 0 < j from .inl (by omega)) z⟩
          intro x hx
          rw [hx, rh_if_t (show 0 < i ∧ aL R S i j = aL R S (i - 1) j + R (i - 1) from ⟨(by omega), d⟩), rh_if_t (show 0 < i ∧ aL R S i j = aL R S (i - 1) j + R (i - 1) from ⟨(by omega), d⟩)]
          exact ⟨fun _ z => by omega, fun _ z => by omega, fun _ z => by omega, fun _ z => by omega, fun _ z => by omega, fun z => by omega, fun _ => ⟨fun _ => ⟨by omega, by omega⟩, fun _ => ⟨by omega, by omega⟩, fun _ => ⟨by omega, by omega⟩, fun _ => ⟨by omega, by omega⟩, fun _ => ⟨by omega, by omega⟩, E2 P HP⟩⟩
      · have s := hS (j - 1) (by omega) (by omega)
        have gb := gp_b r'.1 s.1
        have t3 : A 242 ((g + 1) * (i - 1) + (j - 1)) = aL R S (i - 1) (j - 1) := by rw [eA 242 _ (by decide)]; exact T (i - 1) (j - 1) (by omega) (by omega) (by omega) (by omega)
        have u3 : B 73 (81 * (i - 1) + (j - 1)) = aL R S (i - 1) (j - 1) := by rw [eB 73 _ (by decide)]; exact U (i - 1) (j - 1) (by omega) (by omega) (by omega) (by omega)
        have v3 : A 240 (j - 1) = S (j - 1) := by rw [eA 240 _ (by decide)]; exact h2 _ (by omega) (by omega)
        have v4 : B 71 (j - 1) = S (j - 1) := by rw [eB 71 _ (by decide)]; exact k2 _ (by omega) (by omega)
        have b3 := bd (i - 1) (j - 1) (by omega) (by omega) (by omega) (by omega)
        by_cases q : aL R S i j = aL R S (i - 1) (j - 1) + gp (R (i - 1)) (S (j - 1))
        · obtain ⟨c1, c2⟩ := cnt (j - 1) (rh_set A 243 (i - 1) (j - 1)) (rh_set B 74 (i - 1) (j - 1)) (.inr ⟨by omega, by omega⟩) (fA.st rfl) (fB.st rfl) (fun k => by rw [rh_set_f]; rfl) (fun k => by rw [rh_set_f]; rfl)
          obtain ⟨A', B', E1, E2, r⟩ := ih (m - 2) (by omega) (i - 1) (j - 1) _ _ (by omega) (by omega) (by omega) (by omega) (by omega) (fA.st rfl) (fB.st rfl) c1 c2
          refine ⟨A', B', fun P HP => ?_, fun P HP => ?_, r⟩
          · refine rh1.of (rX1_layBeside_203 hh _ _ _ _ ?_)
            rw [show (g + 1) * (i - 1) + j - 1 = (g + 1) * (i - 1) + (j - 1) by omega, t1, t2, t3, v1, v3, gp_h, show i + -1 = i - 1 by omega, show j + -1 = j - 1 by omega]
            refine ⟨fun _ => ⟨⟨by omega, by omega⟩, ?_⟩, fun z => by omega⟩
            intro x hx
            rw [hx]
            exact ⟨fun _ => ⟨by omega, by omega⟩, fun _ => ⟨by omega, by omega⟩, fun _ => ⟨by omega, by omega⟩, fun _ => ⟨by omega, by omega⟩, fun _ => ⟨by omega, by omega⟩, fun _ => ⟨by omega, by omega⟩, fun _ => ⟨⟨by omega, by omega⟩, ⟨by omega, by omega⟩, ⟨by omega, by omega⟩, ⟨by omega, by omega⟩, E1 P HP⟩, fun z => absurd (show 0 < j ∧ aL R S i j = aL R S (i - 1) (j - 1) + gp (R (i - 1)) (S (j - 1)) from ⟨(by omega), q⟩) z⟩
          · refine rh1.of (rX32_alignWords_220 hm _ _ _ ?_)
            rw [show 81 * (i - 1) + j - 1 = 81 * (i - 1) + (j - 1) by omega, u1, u2, u3, v2, v4, gp_m, show i + -1 = i - 1 by omega, show j + -1 = j - 1 by omega]
            refine ⟨fun _ => ⟨⟨by omega, by omega⟩, ?_⟩, fun z => absurd (show 0 < i ∨ 0 < j from .inl (by omega)) z⟩
            intro x hx
            rw [hx]
            exact ⟨fun _ _ => ⟨by omega, by omega⟩, fun _ _ => ⟨by omega, by omega⟩, fun _ _ => ⟨by omega, by omega⟩, fun _ _ => ⟨by omega, by omega⟩, fun _ _ => ⟨by omega, by omega⟩, fun _ => ⟨⟨by omega, by omega⟩, ⟨by omega, by omega⟩, ⟨by omega, by omega⟩, E2 P HP⟩, fun z => absurd (show 0 < i ∧ (0 < j ∧ aL R S i j = aL R S (i - 1) (j - 1) + gp (R (i - 1)) (S (j - 1))) from ⟨(by omega), (by omega), q⟩) z⟩
        · by_cases d : aL R S i j = aL R S (i - 1) j + R (i - 1)
          · obtain ⟨A', B', E1, E2, r⟩ := down d (fun z => q z.2)
            refine ⟨A', B', fun P HP => ?_, fun P HP => ?_, r⟩
            · refine rh1.of (rX1_layBeside_203 hh _ _ _ _ ?_)
              rw [show (g + 1) * (i - 1) + j - 1 = (g + 1) * (i - 1) + (j - 1) by omega, t1, t2, t3, v1, v3, gp_h, show i + -1 = i - 1 by omega]
              refine ⟨fun _ => ⟨⟨by omega, by omega⟩, ?_⟩, fun z => by omega⟩
              intro x hx
              rw [hx]
              exact ⟨fun _ => ⟨by omega, by omega⟩, fun _ => ⟨by omega, by omega⟩, fun _ => ⟨by omega, by omega⟩, fun _ => ⟨by omega, by omega⟩, fun _ => ⟨by omega, by omega⟩, fun _ => ⟨by omega, by omega⟩, fun z => absurd z.2 q, fun _ => ⟨⟨by omega, by omega⟩, ⟨by omega, by omega⟩, ⟨by omega, by omega⟩, fun _ => ⟨⟨by omega, by omega⟩, ⟨by omega, by omega⟩, E1 P HP⟩, fun z => absurd d z⟩⟩
            · refine rh1.of (rX32_alignWords_220 hm _ _ _ ?_)
              rw [show 81 * (i - 1) + j - 1 = 81 * (i - 1) + (j - 1) by omega, u1, u2, u3, v2, v4, gp_m, show i + -1 = i - 1 by omega]
              refine ⟨fun _ => ⟨⟨by omega, by omega⟩, ?_⟩, fun z => absurd (show 0 < i ∨ 0 < j from .inl (by omega)) z⟩
              intro x hx
              rw [hx, rh_if_t (show 0 < i ∧ aL R S i j = aL R S (i - 1) j + R (i - 1) from ⟨(by omega), d⟩), rh_if_t (show 0 < i ∧ aL R S i j = aL R S (i - 1) j + R (i - 1) from ⟨(by omega), d⟩)]
              exact ⟨fun _ _ => ⟨by omega, by omega⟩, fun _ _ => ⟨by omega, by omega⟩, fun _ _ => ⟨by omega, by omega⟩, fun _ _ => ⟨by omega, by omega⟩, fun _ _ => ⟨by omega, by omega⟩, fun z => absurd z.2.2 q, fun _ => ⟨fun _ => ⟨by omega, by omega⟩, fun _ => ⟨by omega, by omega⟩, fun _ => ⟨by omega, by omega⟩, fun _ => ⟨by omega, by omega⟩, fun _ => ⟨by omega, by omega⟩, E2 P HP⟩⟩
          · obtain ⟨A', B', E1, E2, r⟩ := ih (m - 1) (by omega) i (j - 1) A B (by omega) (by omega) (by omega) (by omega) (by omega) fA fB hP hQ
            refine ⟨A', B', fun P HP => ?_, fun P HP => ?_, r⟩
            · refine rh1.of (rX1_layBeside_203 hh _ _ _ _ ?_)
              rw [show (g + 1) * (i - 1) + j - 1 = (g + 1) * (i - 1) + (j - 1) by omega, t1, t2, t3, v1, v3, gp_h, show j + -1 = j - 1 by omega]
              refine ⟨fun _ => ⟨⟨by omega, by omega⟩, ?_⟩, fun z => by omega⟩
              intro x hx
              rw [hx]
              exact ⟨fun _ => ⟨by omega, by omega⟩, fun _ => ⟨by omega, by omega⟩, fun _ => ⟨by omega, by omega⟩, fun _ => ⟨by omega, by omega⟩, fun _ => ⟨by omega, by omega⟩, fun _ => ⟨by omega, by omega⟩, fun z => absurd z.2 q, fun _ => ⟨⟨by omega, by omega⟩, ⟨by omega, by omega⟩, ⟨by omega, by omega⟩, fun z => absurd z d, fun _ => ⟨⟨by omega, by omega⟩, E1 P HP⟩⟩⟩
            · refine rh1.of (rX32_alignWords_220 hm _ _ _ ?_)
              rw [show 81 * (i - 1) + j - 1 = 81 * (i - 1) + (j - 1) by omega, u1, u2, u3, v2, v4, gp_m, show j + -1 = j - 1 by omega]
              refine ⟨fun _ => ⟨⟨by omega, by omega⟩, ?_⟩, fun z => absurd (show 0 < i ∨ 0 < j from .inl (by omega)) z⟩
              intro x hx
              rw [hx, rh_if_f (show ¬ (0 < i ∧ aL R S i j = aL R S (i - 1) j + R (i - 1)) from fun z => d z.2), rh_if_f (show ¬ (0 < i ∧ aL R S i j = aL R S (i - 1) j + R (i - 1)) from fun z => d z.2)]
              exact ⟨fun _ _ => ⟨by omega, by omega⟩, fun _ _ => ⟨by omega, by omega⟩, fun _ _ => ⟨by omega, by omega⟩, fun _ _ => ⟨by omega, by omega⟩, fun _ _ => ⟨by omega, by omega⟩, fun z => absurd z.2.2 q, fun _ => ⟨fun _ => ⟨by omega, by omega⟩, fun _ => ⟨by omega, by omega⟩, fun _ => ⟨by omega, by omega⟩, fun _ => ⟨by omega, by omega⟩, fun _ => ⟨by omega, by omega⟩, E2 P HP⟩⟩
/-- both lay the words side by side -/
theorem t_align (hh : rh_hs wh) (hm : rh_ms wm) {R S : Int → Int} {n g : Int} (hn : 0 ≤ n ∧ n ≤ 80) (hg : 0 ≤ g ∧ g ≤ 80) (hR : ∀ i, 0 ≤ i → i < n → 0 ≤ R i ∧ R i ≤ 130) (hS : ∀ j, 0 ≤ j → j < g → 0 ≤ S j ∧ S j ≤ 12) (Mh Mm : rhM) (h0 : Mh 0 27 = g) (h1 : ∀ i, 0 ≤ i → i < n → Mh 241 i = R i) (h2 : ∀ j, 0 ≤ j → j < g → Mh 240 j = S j) (k0 : Mm 0 99 = g) (k1 : ∀ i, 0 ≤ i → i < n → Mm 72 i = R i) (k2 : ∀ j, 0 ≤ j → j < g → Mm 71 j = S j) :
    ∃ A B, eC wh YX1_layBeside 1 [(2, 0), (0, n)] Mh 0 A ∧ eC wm YX32_alignWords 1 [(2, 0), (0, n)] Mm 0 B ∧ frx (fun c _ => c = 242 ∨ c = 243) Mh A ∧ frx (fun c _ => c = 73 ∨ c = 74) Mm B ∧ ∀ k, 0 ≤ k → k < n → A 243 k = B 74 k ∧ (B 74 k = -1 ∨ (0 ≤ B 74 k ∧ B 74 k < g)) := by
  obtain ⟨A1, EA1, fA1, T⟩ := h_table hh hn hg hR hS Mh h0 h1 h2
  obtain ⟨B1, EB1, fB1, U⟩ := m_table hm hn hg hR hS Mm k0 k1 k2
  have cl : ∀ (m : Nat) (k : Int) (X : rhM), k + m = n → 0 ≤ k → frx (fun c _ => c = 74) B1 X → (∀ i, 0 ≤ i → i < k → X 74 i = -1) → ∃ B2, eS wm YX32_alignWords 1 200 [(0, 2, 0), (1, 0, n), (2, 0, n), (3, 0, g), (4, 0, k)] [] X 220 [(0, 2, 0), (2, 0, n), (3, 0, g)] [] B2 ∧ frx (fun c _ => c = 74) B1 B2 ∧ ∀ i, 0 ≤ i → i < n → B2 74 i = -1 := by
    intro m
    induction m with
    | zero =>
      intro k X hk k0' f h
      refine ⟨X, eS.of (fun P HP => ?_), f, fun i i0 i1 => h i i0 (by omega)⟩
      refine rh1.of (rX32_alignWords_200 hm _ _ _ _ _ ?_)
      exact ⟨fun z => by omega, fun _ => HP⟩
    | succ m ih =>
      intro k X hk k0' f h
      obtain ⟨B2, E, r⟩ := ih (k + 1) (rh_set X 74 k (-1)) (by omega) (by omega) (f.st rfl) (fun i i0 i1 => by
        by_cases e : i = k
        · rw [e, rh_set_s]
        · rw [rh_set_j e]; exact h i i0 (by omega))
      refine ⟨B2, eS.of (fun P HP => ?_), r⟩
      refine rh1.of (rX32_alignWords_200 hm _ _ _ _ _ ?_)
      exact ⟨fun _ => ⟨⟨by omega, by omega⟩, ⟨by omega, by omega⟩, rh1.s E HP⟩, fun z => by omega⟩
  obtain ⟨B2, EB2, fB2, c2⟩ := cl n.toNat 0 B1 (by omega) (by omega) frx.rf (fun i i0 i1 => by omega)
  obtain ⟨A, B, E1, E2, fA, fB, r⟩ := t_trace hh hm hn hg hR hS A1 B1 (fun i i0 i1 => by rw [fA1 241 i (by omega)]; exact h1 i i0 i1) (fun j j0 j1 => by rw [fA1 240 j (by omega)]; exact h2 j j0 j1) (fun i i0 i1 => by rw [fB1 72 i (by omega)]; exact k1 i i0 i1) (fun j j0 j1 => by rw [fB1 71 j (by omega)]; exact k2 j j0 j1) T U (n + g).toNat n g A1 B2 (by omega) (by omega) (by omega) (by omega) (by omega) frx.rf fB2 (fun k k0' k1' => by omega) c2
  refine ⟨A, B, eC.of1 (rC1.of (by decide) (LE0 rfl) (rh1.s EA1 (E1 _ ⟨rfl, rfl⟩))), eC.of1 (rC1.of (by decide) (LE0 rfl) (rh1.s EB1 (rh1.s EB2 (E2 _ ⟨rfl, rfl⟩)))), (fA1.w (fun c j h => .inl h)).tr (fA.w (fun c j h => .inr h)), (fB1.w (fun c j h => .inl h)).tr (fB.w (fun c j h => .inr h)), r⟩
end AlignO
