/-! ===== LAYER 2: words of the page beside the given ones: layBeside, alignWords ===== -/
section Align
variable {wh wm : rhW}
def gp (x y : Int) : Int := if y ≤ x then x - y else y - x
theorem gp_h (x y : Int) : rh_if (0 ≤ x - y) (x - y) (0 - (x - y)) = gp x y := by
  unfold gp
  by_cases q : 0 ≤ x - y
  · rw [rh_if_t q, if_pos (by omega)]
  · rw [rh_if_f q, if_neg (by omega)]; omega
theorem gp_m (x y : Int) : rh_if (y < x) (x - y) (y - x) = gp x y := by
  unfold gp
  by_cases q : y < x
  · rw [rh_if_t q, if_pos (by omega)]
  · rw [rh_if_f q]
    by_cases z : y ≤ x
    · rw [if_pos z]; omega
    · rw [if_neg z]
theorem gp_b {x y : Int} (hx : 0 ≤ x) (hy : 0 ≤ y) : 0 ≤ gp x y ∧ gp x y ≤ x + y := by unfold gp; split <;> omega
def alz (S : Int → Int) : Nat → Int
  | 0 => 0
  | j + 1 => alz S j + S j
def alr (R : Int) (S p : Int → Int) : Nat → Int
  | 0 => p 0 + R
  | j + 1 => min (p j + gp R (S j)) (min (p (j + 1) + R) (alr R S p j + S j))
def alt (R S : Int → Int) : Nat → Int → Int
  | 0 => fun b => alz S b.toNat
  | i + 1 => fun b => alr (R i) S (alt R S i) b.toNat
def aL (R S : Int → Int) (i j : Int) : Int := alt R S i.toNat j
theorem aL_00 {R S : Int → Int} : aL R S 0 0 = 0 := rfl
theorem aL_0s {R S : Int → Int} {j : Int} (h : 1 ≤ j) : aL R S 0 j = aL R S 0 (j - 1) + S (j - 1) := by
  obtain ⟨u, rfl⟩ : ∃ u : Nat, j = ((u + 1 : Nat) : Int) := ⟨(j - 1).toNat, (by omega)⟩
  show alz S (((u + 1 : Nat) : Int)).toNat = alz S (((u + 1 : Nat) : Int) - 1).toNat + S (((u + 1 : Nat) : Int) - 1)
  rw [show (((u + 1 : Nat) : Int)).toNat = u + 1 by omega, show (((u + 1 : Nat) : Int) - 1).toNat = u by omega, show ((u + 1 : Nat) : Int) - 1 = u by omega]
  rfl
theorem aL_row {R S : Int → Int} {i : Int} (h : 1 ≤ i) (j : Int) : aL R S i j = alr (R (i - 1)) S (aL R S (i - 1)) j.toNat := by
  obtain ⟨u, rfl⟩ : ∃ u : Nat, i = ((u + 1 : Nat) : Int) := ⟨(i - 1).toNat, (by omega)⟩
  have e : aL R S (((u + 1 : Nat) : Int) - 1) = alt R S u := by
    funext b
    unfold aL
    rw [show (((u + 1 : Nat) : Int) - 1).toNat = u by omega]
  rw [e, show ((u + 1 : Nat) : Int) - 1 = u by omega]
  unfold aL
  rw [show (((u + 1 : Nat) : Int)).toNat = u + 1 by omega]
  rfl
theorem aL_s0 {R S : Int → Int} {i : Int} (h : 1 ≤ i) : aL R S i 0 = aL R S (i - 1) 0 + R (i - 1) := by rw [aL_row h]; rfl
theorem aL_ss {R S : Int → Int} {i j : Int} (h : 1 ≤ i) (h2 : 1 ≤ j) : aL R S i j = min (aL R S (i - 1) (j - 1) + gp (R (i - 1)) (S (j - 1))) (min (aL R S (i - 1) j + R (i - 1)) (aL R S i (j - 1) + S (j - 1))) := by
  obtain ⟨u, rfl⟩ : ∃ u : Nat, j = ((u + 1 : Nat) : Int) := ⟨(j - 1).toNat, (by omega)⟩
  rw [aL_row h, aL_row h, show (((u + 1 : Nat) : Int)).toNat = u + 1 by omega, show (((u + 1 : Nat) : Int) - 1).toNat = u by omega, show ((u + 1 : Nat) : Int) - 1 = u by omega]
  rfl
theorem aL_b {R S : Int → Int} {n g : Int} (hR : ∀ i, 0 ≤ i → i < n → 0 ≤ R i ∧ R i ≤ 130) (hS : ∀ j, 0 ≤ j → j < g → 0 ≤ S j ∧ S j ≤ 12) : ∀ (m : Nat) (i j : Int), i + j = m → 0 ≤ i → i ≤ n → 0 ≤ j → j ≤ g → 0 ≤ aL R S i j ∧ aL R S i j ≤ 130 * i + 12 * j := by
  intro m
  induction m using Nat.strongRecOn with
  | ind m ih =>
    intro i j hm i0 i1 j0 j1
    by_cases a : i = 0
    · by_cases b : j = 0
      · rw [a, b, aL_00]; omega
      · have h := ih (m - 1) (by omega) 0 (j - 1) (by omega) (by omega) (by omega) (by omega) (by omega)
        have s := hS (j - 1) (by omega) (by omega)
        rw [a, aL_0s (by omega)]; omega
    · have r := hR (i - 1) (by omega) (by omega)
      by_cases b : j = 0
      · have h := ih (m - 1) (by omega) (i - 1) 0 (by omega) (by omega) (by omega) (by omega) (by omega)
        rw [b, aL_s0 (by omega)]; omega
      · have s := hS (j - 1) (by omega) (by omega)
        have h1 := ih (m - 2) (by omega) (i - 1) (j - 1) (by omega) (by omega) (by omega) (by omega) (by omega)
        have h2 := ih (m - 1) (by omega) (i - 1) j (by omega) (by omega) (by omega) (by omega) (by omega)
        have h3 := ih (m - 1) (by omega) i (j - 1) (by omega) (by omega) (by omega) (by omega) (by omega)
        have g1 := gp_b r.1 s.1
        rw [aL_ss (by omega) (by omega)]; omega
/-- a table so far -/
def Ttb (D : Int → Int → Int) (w m : Int) (X : Int → Int) (a b : Int) : Prop := ∀ a' b' : Int, 0 ≤ a' → 0 ≤ b' → b' ≤ m → (a' < a ∨ (a' = a ∧ b' < b)) → X (w * a' + b') = D a' b'
theorem Ttb.st {D : Int → Int → Int} {w m a b v : Int} {M : rhM} {c : Int} (T : Ttb D w m (M c) a b) (hw : m < w) (hb : 0 ≤ b ∧ b ≤ m) (hv : v = D a b) : Ttb D w m (rh_set M c (w * a + b) v c) a (b + 1) := fun a' b' a0 b0 b1 h => by
  by_cases q : a' = a ∧ b' = b
  · rw [q.1, q.2, rh_set_s, hv]
  · rw [rh_set_j]
    · exact T a' b' a0 b0 b1 (by omega)
    · intro e
      rcases h with h | h
      · have := wix (w := w) (a := a) (b := b) (a' := a') (b' := b') (by omega) (by omega) (by omega) h
        omega
      · rw [h.1] at e
        omega
theorem Ttb.nx {D : Int → Int → Int} {w m a : Int} {X : Int → Int} (T : Ttb D w m X a (m + 1)) : Ttb D w m X (a + 1) 0 := fun a' b' a0 b0 b1 h => T a' b' a0 b0 b1 (by omega)
theorem h_table (hh : rh_hs wh) {R S : Int → Int} {n g : Int} (hn : 0 ≤ n ∧ n ≤ 80) (hg : 0 ≤ g ∧ g ≤ 80) (hR : ∀ i, 0 ≤ i → i < n → 0 ≤ R i ∧ R i ≤ 130) (hS : ∀ j, 0 ≤ j → j < g → 0 ≤ S j ∧ S j ≤ 12) (M : rhM) (h0 : M 0 27 = g) (h1 : ∀ i, 0 ≤ i → i < n → M 241 i = R i) (h2 : ∀ j, 0 ≤ j → j < g → M 240 j = S j) : ∃ A, eS wh YX1_layBeside 1 0 (rh_lo 0 [(2, 0), (0, n)]) [] M 203 [(0, 2, 0), (2, 0, g + 1), (3, 0, n), (4, 0, g)] [] A ∧ frx (fun c _ => c = 242) M A ∧ Ttb (aL R S) (g + 1) g (A 242) (n + 1) 0 := by
  have B : ∀ c, 0 ≤ c → c ≤ 80 → 0 ≤ (g + 1) * c ∧ (g + 1) * c ≤ 6480 := fun c c0 c1 => by
    have := mb2 (a := g + 1) (b := c) (A := 81) (B := 80) (by omega) (by omega) (by omega) (by omega)
    omega
  have bd : ∀ i j, 0 ≤ i → i ≤ n → 0 ≤ j → j ≤ g → 0 ≤ aL R S i j ∧ aL R S i j ≤ 130 * i + 12 * j := fun i j i0 i1 j0 j1 => aL_b hR hS (i + j).toNat i j (by omega) i0 i1 j0 j1
  have w1 : ∀ (k : Nat) (i : Int) (X : rhM), i + k = n + 1 → 0 ≤ i → frx (fun c _ => c = 242) M X → Ttb (aL R S) (g + 1) g (X 242) i 0 → ∃ A, eS wh YX1_layBeside 1 9 [(0, 2, 0), (1, 0, n), (2, 0, g + 1), (3, 0, i)] [] X 203 [(0, 2, 0), (2, 0, g + 1), (3, 0, n), (4, 0, g)] [] A ∧ frx (fun c _ => c = 242) M A ∧ Ttb (aL R S) (g + 1) g (A 242) (n + 1) 0 := by
    intro k
    induction k with
    | zero =>
      intro i X hi i0 f T
      have e : i = n + 1 := (by omega)
      rw [e] at T
      refine ⟨X, eS.of (fun P HP => ?_), f, T⟩
      refine rh1.of (rX1_layBeside_9 hh _ _ _ _ ?_)
      rw [f 0 27 (by omega), h0]
      exact ⟨fun z => by omega, fun _ => HP⟩
    | succ k ih =>
      intro i X hi i0 f T
      have w2 : ∀ (k2 : Nat) (j : Int) (X : rhM), j + k2 = g + 1 → 0 ≤ j → frx (fun c _ => c = 242) M X → Ttb (aL R S) (g + 1) g (X 242) i j → ∃ A, eS wh YX1_layBeside 1 17 [(0, 2, 0), (1, 0, n), (2, 0, g + 1), (3, 0, i), (4, 0, j)] [] X 203 [(0, 2, 0), (2, 0, g + 1), (3, 0, n), (4, 0, g)] [] A ∧ frx (fun c _ => c = 242) M A ∧ Ttb (aL R S) (g + 1) g (A 242) (n + 1) 0 := by
        intro k2
        induction k2 with
        | zero =>
          intro j X hj j0 f T
          have e : j = g + 1 := (by omega)
          rw [e] at T
          obtain ⟨A, E, r⟩ := ih (i + 1) X (by omega) (by omega) f T.nx
          refine ⟨A, eS.of (fun P HP => ?_), r⟩
          refine rh1.of (rX1_layBeside_17 hh _ _ _ _ _ ?_)
          rw [f 0 27 (by omega), h0]
          exact ⟨fun z => by omega, fun _ => ⟨⟨by omega, by omega⟩, rh1.s E HP⟩⟩
        | succ k2 ih2 =>
          intro j X hj j0 f T
          have bi := B i (by omega) (by omega)
          have rng : 0 ≤ (g + 1) * i + j ∧ (g + 1) * i + j < 6561 := ⟨by omega, by omega⟩
          obtain ⟨A, E, r⟩ := ih2 (j + 1) (rh_set X 242 ((g + 1) * i + j) (aL R S i j)) (by omega) (by omega) (f.st rfl) (T.st (by omega) ⟨by omega, by omega⟩ rfl)
          refine ⟨A, eS.of (fun P HP => ?_), r⟩
          have I := rh1.s E HP
          have bij := bd i j (by omega) (by omega) (by omega) (by omega)
          refine rh1.of (rX1_layBeside_17 hh _ _ _ _ _ ?_)
          rw [f 0 27 (by omega), h0]
          refine ⟨fun _ => ?_, fun z => by omega⟩
          intro x0 hx0
          by_cases a : i = 0
          · refine ⟨fun z => by omega, fun _ => ⟨fun z => by omega, fun _ => ?_⟩⟩
            intro x1 hx1
            by_cases b : j = 0
            · rw [rh_if_t ⟨a, b⟩] at hx0
              refine ⟨fun z => by omega, fun _ => ?_⟩
              intro x2 hx2
              have e : x2 = aL R S i j := by rw [hx2, hx1, hx0, a, b, aL_00]
              rw [e]
              exact ⟨rng, ⟨by omega, by omega⟩, I⟩
            · rw [rh_if_f (fun z => b z.2)] at hx0
              have e1 := T i (j - 1) (by omega) (by omega) (by omega) (by omega)
              have b1 := bd i (j - 1) (by omega) (by omega) (by omega) (by omega)
              have s := hS (j - 1) (by omega) (by omega)
              rw [show (g + 1) * i + j - 1 = (g + 1) * i + (j - 1) by omega, e1, f 240 _ (by omega), h2 (j - 1) (by omega) (by omega)]
              refine ⟨fun _ => ⟨⟨by omega, by omega⟩, ⟨by omega, by omega⟩, ⟨by omega, by omega⟩, ?_⟩, fun z => by omega⟩
              intro x2 hx2
              have e : x2 = aL R S i j := by
                rw [hx2, rh_if_t (by omega), a, ← aL_0s (by omega)]
              rw [e]
              exact ⟨rng, ⟨by omega, by omega⟩, I⟩
          · have bp := B (i - 1) (by omega) (by omega)
            have r' := hR (i - 1) (by omega) (by omega)
            have e2 := T (i - 1) j (by omega) (by omega) (by omega) (by omega)
            have b2 := bd (i - 1) j (by omega) (by omega) (by omega) (by omega)
            rw [rh_if_f (fun z => a z.1)] at hx0
            rw [e2, f 241 _ (by omega), h1 (i - 1) (by omega) (by omega)]
            by_cases b : j = 0
            · refine ⟨fun z => by omega, fun _ => ⟨fun _ => ⟨⟨by omega, by omega⟩, ⟨by omega, by omega⟩, ⟨by omega, by omega⟩, ?_⟩, fun z => by omega⟩⟩
              intro x1 hx1
              refine ⟨fun z => by omega, fun _ => ?_⟩
              intro x2 hx2
              have e : x2 = aL R S i j := by
                rw [hx2, hx1, rh_if_t (by omega), b, ← aL_s0 (by omega)]
              rw [e]
              exact ⟨rng, ⟨by omega, by omega⟩, I⟩
            · have e1 := T i (j - 1) (by omega) (by omega) (by omega) (by omega)
              have b1 := bd i (j - 1) (by omega) (by omega) (by omega) (by omega)
              have e3 := T (i - 1) (j - 1) (by omega) (by omega) (by omega) (by omega)
              have b3 := bd (i - 1) (j - 1) (by omega) (by omega) (by omega) (by omega)
              have s := hS (j - 1) (by omega) (by omega)
              have gb := gp_b r'.1 s.1
              rw [show (g + 1) * i + j - 1 = (g + 1) * i + (j - 1) by omega, show (g + 1) * (i - 1) + j - 1 = (g + 1) * (i - 1) + (j - 1) by omega, e1, e3, f 240 _ (by omega), h2 (j - 1) (by omega) (by omega), gp_h]
              refine ⟨fun _ => ⟨⟨by omega, by omega⟩, ⟨by omega, by omega⟩, ⟨by omega, by omega⟩, ⟨by omega, by omega⟩, ⟨by omega, by omega⟩, ?_⟩, fun z => absurd (show 0 < i ∧ 0 < j from ⟨by omega, by omega⟩) z⟩
              intro x1 hx1
              refine ⟨⟨by omega, by omega⟩, fun _ => ⟨⟨by omega, by omega⟩, ⟨by omega, by omega⟩, ⟨by omega, by omega⟩, ?_⟩, fun z => by omega⟩
              intro x2 hx2
              refine ⟨fun _ => ⟨⟨by omega, by omega⟩, ⟨by omega, by omega⟩, ⟨by omega, by omega⟩, ?_⟩, fun z => by omega⟩
              intro x3 hx3
              have m2 : x2 = min x1 (aL R S (i - 1) j + R (i - 1)) := by
                rw [hx2]
                by_cases q : aL R S (i - 1) j + R (i - 1) < x1
                · rw [rh_if_t q]; omega
                · rw [rh_if_f q]; omega
              have m3 : x3 = min x2 (aL R S i (j - 1) + S (j - 1)) := by
                rw [hx3]
                by_cases q : aL R S i (j - 1) + S (j - 1) < x2
                · rw [rh_if_t q]; omega
                · rw [rh_if_f q]; omega
              have e : x3 = aL R S i j := by rw [aL_ss (by omega) (by omega), m3, m2, hx1]; omega
              rw [e]
              exact ⟨rng, ⟨by omega, by omega⟩, I⟩
      obtain ⟨A, E, r⟩ := w2 (g + 1).toNat 0 X (by omega) (by omega) f T
      refine ⟨A, eS.of (fun P HP => ?_), r⟩
      refine rh1.of (rX1_layBeside_9 hh _ _ _ _ ?_)
      exact ⟨fun _ => rh1.s E HP, fun z => by omega⟩
  obtain ⟨A, E, r⟩ := w1 (n + 1).toNat 0 M (by omega) (by omega) frx.rf (fun a' b' a0 b0 b1 h => by omega)
  refine ⟨A, eS.of (fun P HP => ?_), r⟩
  refine rh1.of (rX1_layBeside_0 hh _ _ ?_)
  rw [h0]
  exact ⟨⟨by omega, by omega⟩, rh1.s E HP⟩
theorem m_table (hm : rh_ms wm) {R S : Int → Int} {n g : Int} (hn : 0 ≤ n ∧ n ≤ 80) (hg : 0 ≤ g ∧ g ≤ 80) (hR : ∀ i, 0 ≤ i → i < n → 0 ≤ R i ∧ R i ≤ 130) (hS : ∀ j, 0 ≤ j → j < g → 0 ≤ S j ∧ S j ≤ 12) (M : rhM) (h0 : M 0 99 = g) (h1 : ∀ i, 0 ≤ i → i < n → M 72 i = R i) (h2 : ∀ j, 0 ≤ j → j < g → M 71 j = S j) : ∃ A, eS wm YX32_alignWords 1 0 (rh_lo 0 [(2, 0), (0, n)]) [] M 200 [(0, 2, 0), (1, 0, n), (2, 0, n), (3, 0, g), (4, 0, 0)] [] A ∧ frx (fun c _ => c = 73) M A ∧ Ttb (aL R S) 81 g (A 73) (n + 1) 0 := by
  have bd : ∀ i j, 0 ≤ i → i ≤ n → 0 ≤ j → j ≤ g → 0 ≤ aL R S i j ∧ aL R S i j ≤ 130 * i + 12 * j := fun i j i0 i1 j0 j1 => aL_b hR hS (i + j).toNat i j (by omega) i0 i1 j0 j1
  have w1 : ∀ (k : Nat) (i : Int) (X : rhM), i + k = n + 1 → 0 ≤ i → frx (fun c _ => c = 73) M X → Ttb (aL R S) 81 g (X 73) i 0 → ∃ A, eS wm YX32_alignWords 1 2 [(0, 2, 0), (1, 0, n), (2, 0, i)] [] X 200 [(0, 2, 0), (1, 0, n), (2, 0, n), (3, 0, g), (4, 0, 0)] [] A ∧ frx (fun c _ => c = 73) M A ∧ Ttb (aL R S) 81 g (A 73) (n + 1) 0 := by
    intro k
    induction k with
    | zero =>
      intro i X hi i0 f T
      have e : i = n + 1 := (by omega)
      rw [e] at T
      refine ⟨X, eS.of (fun P HP => ?_), f, T⟩
      refine rh1.of (rX32_alignWords_2 hm _ _ _ ?_)
      rw [f 0 99 (by omega), h0]
      exact ⟨fun z => by omega, fun _ => HP⟩
    | succ k ih =>
      intro i X hi i0 f T
      have w2 : ∀ (k2 : Nat) (j : Int) (X : rhM), j + k2 = g + 1 → 0 ≤ j → frx (fun c _ => c = 73) M X → Ttb (aL R S) 81 g (X 73) i j → ∃ A, eS wm YX32_alignWords 1 9 [(0, 2, 0), (1, 0, n), (2, 0, i), (3, 0, j)] [] X 200 [(0, 2, 0), (1, 0, n), (2, 0, n), (3, 0, g), (4, 0, 0)] [] A ∧ frx (fun c _ => c = 73) M A ∧ Ttb (aL R S) 81 g (A 73) (n + 1) 0 := by
        intro k2
        induction k2 with
        | zero =>
          intro j X hj j0 f T
          have e : j = g + 1 := (by omega)
          rw [e] at T
          obtain ⟨A, E, r⟩ := ih (i + 1) X (by omega) (by omega) f T.nx
          refine ⟨A, eS.of (fun P HP => ?_), r⟩
          refine rh1.of (rX32_alignWords_9 hm _ _ _ _ ?_)
          rw [f 0 99 (by omega), h0]
          exact ⟨fun z => by omega, fun _ => ⟨⟨by omega, by omega⟩, rh1.s E HP⟩⟩
        | succ k2 ih2 =>
          intro j X hj j0 f T
          have rng : 0 ≤ 81 * i + j ∧ 81 * i + j < 6561 := ⟨by omega, by omega⟩
          obtain ⟨A, E, r⟩ := ih2 (j + 1) (rh_set X 73 (81 * i + j) (aL R S i j)) (by omega) (by omega) (f.st rfl) (T.st (by omega) ⟨by omega, by omega⟩ rfl)
          refine ⟨A, eS.of (fun P HP => ?_), r⟩
          have I := rh1.s E HP
          have bij := bd i j (by omega) (by omega) (by omega) (by omega)
          refine rh1.of (rX32_alignWords_9 hm _ _ _ _ ?_)
          rw [f 0 99 (by omega), h0]
          refine ⟨fun _ => ?_, fun z => by omega⟩
          intro x0 hx0
          by_cases a : i = 0
          · refine ⟨fun z => by omega, fun _ => ?_⟩
            intro x1 hx1
            refine ⟨fun z => by omega, fun _ => ?_⟩
            intro x2 hx2
            by_cases b : j = 0
            · rw [rh_if_t ⟨a, b⟩] at hx0
              refine ⟨fun z => by omega, fun _ => ?_⟩
              intro x3 hx3
              have e : x3 = aL R S i j := by rw [hx3, hx2, hx1, hx0, a, b, aL_00]
              rw [e]
              exact ⟨rng, ⟨by omega, by omega⟩, I⟩
            · rw [rh_if_f (fun z => b z.2)] at hx0
              have e1 := T i (j - 1) (by omega) (by omega) (by omega) (by omega)
              have b1 := bd i (j - 1) (by omega) (by omega) (by omega) (by omega)
              have s := hS (j - 1) (by omega) (by omega)
              rw [show 81 * i + j - 1 = 81 * i + (j - 1) by omega, e1, f 71 _ (by omega), h2 (j - 1) (by omega) (by omega)]
              refine ⟨fun _ => ⟨⟨by omega, by omega⟩, ⟨by omega, by omega⟩, ⟨by omega, by omega⟩, ?_⟩, fun z => by omega⟩
              intro x3 hx3
              have e : x3 = aL R S i j := by
                rw [hx3, rh_if_f (by omega), a, ← aL_0s (by omega)]
              rw [e]
              exact ⟨rng, ⟨by omega, by omega⟩, I⟩
          · have r' := hR (i - 1) (by omega) (by omega)
            have e2 := T (i - 1) j (by omega) (by omega) (by omega) (by omega)
            have b2 := bd (i - 1) j (by omega) (by omega) (by omega) (by omega)
            rw [rh_if_f (fun z => a z.1)] at hx0
            rw [e2, f 72 _ (by omega), h1 (i - 1) (by omega) (by omega)]
            by_cases b : j = 0
            · refine ⟨fun z => by omega, fun _ => ?_⟩
              intro x1 hx1
              refine ⟨fun _ => ⟨⟨by omega, by omega⟩, ⟨by omega, by omega⟩, ⟨by omega, by omega⟩, ?_⟩, fun z => by omega⟩
              intro x2 hx2
              refine ⟨fun z => by omega, fun _ => ?_⟩
              intro x3 hx3
              have e : x3 = aL R S i j := by
                rw [hx3, hx2, rh_if_f (by omega), b, ← aL_s0 (by omega)]
              rw [e]
              exact ⟨rng, ⟨by omega, by omega⟩, I⟩
            · have e1 := T i (j - 1) (by omega) (by omega) (by omega) (by omega)
              have b1 := bd i (j - 1) (by omega) (by omega) (by omega) (by omega)
              have e3 := T (i - 1) (j - 1) (by omega) (by omega) (by omega) (by omega)
              have b3 := bd (i - 1) (j - 1) (by omega) (by omega) (by omega) (by omega)
              have s := hS (j - 1) (by omega) (by omega)
              have gb := gp_b r'.1 s.1
              rw [show 81 * i + j - 1 = 81 * i + (j - 1) by omega, show 81 * (i - 1) + j - 1 = 81 * (i - 1) + (j - 1) by omega, e1, e3, f 71 _ (by omega), h2 (j - 1) (by omega) (by omega), gp_m]
              refine ⟨fun _ => ⟨⟨by omega, by omega⟩, ⟨by omega, by omega⟩, ⟨by omega, by omega⟩, ⟨by omega, by omega⟩, ⟨by omega, by omega⟩, ?_⟩, fun z => absurd (show 0 < i ∧ 0 < j from ⟨by omega, by omega⟩) z⟩
              intro x1 hx1
              refine ⟨fun _ => ⟨⟨by omega, by omega⟩, ⟨by omega, by omega⟩, ⟨by omega, by omega⟩, ?_⟩, fun z => by omega⟩
              intro x2 hx2
              refine ⟨fun _ => ⟨⟨by omega, by omega⟩, ⟨by omega, by omega⟩, ⟨by omega, by omega⟩, ?_⟩, fun z => by omega⟩
              intro x3 hx3
              have m1 : x1 = aL R S (i - 1) (j - 1) + gp (R (i - 1)) (S (j - 1)) := by
                rw [hx1, rh_if_f (by omega)]
              have m2 : x2 = min x1 (aL R S (i - 1) j + R (i - 1)) := by
                rw [hx2]
                by_cases q : x1 < aL R S (i - 1) j + R (i - 1)
                · rw [rh_if_t q]; omega
                · rw [rh_if_f q]; omega
              have m3 : x3 = min x2 (aL R S i (j - 1) + S (j - 1)) := by
                rw [hx3]
                by_cases q : x2 < aL R S i (j - 1) + S (j - 1)
                · rw [rh_if_t q]; omega
                · rw [rh_if_f q]; omega
              have e : x3 = aL R S i j := by rw [aL_ss (by omega) (by omega), m3, m2, m1]; omega
              rw [e]
              exact ⟨rng, ⟨by omega, by omega⟩, I⟩
      obtain ⟨A, E, r⟩ := w2 (g + 1).toNat 0 X (by omega) (by omega) f T
      refine ⟨A, eS.of (fun P HP => ?_), r⟩
      refine rh1.of (rX32_alignWords_2 hm _ _ _ ?_)
      exact ⟨fun _ => rh1.s E HP, fun z => by omega⟩
  obtain ⟨A, E, r⟩ := w1 (n + 1).toNat 0 M (by omega) (by omega) frx.rf (fun a' b' a0 b0 b1 h => by omega)
  refine ⟨A, eS.of (fun P HP => ?_), r⟩
  refine rh1.of (rX32_alignWords_0 hm _ _ ?_)
  exact rh1.s E HP
end Align
