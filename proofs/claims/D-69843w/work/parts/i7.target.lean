/-! ===== LAYER 2: the word from which a field is taken ===== -/
section Target
variable {wh wm : rhW}
/-- readings: boxes small; lines rise; blocks lie one after another -/
def RdO (B : rhM) : Prop := ∀ r, 0 ≤ r → r < 4 → B 113 r ≠ 0 → (∀ i, 0 ≤ i → i < B 114 r → (0 ≤ B 115 (80 * r + i) ∧ B 115 (80 * r + i) ≤ 128) ∧ (0 ≤ B 116 (80 * r + i) ∧ B 116 (80 * r + i) ≤ 96) ∧ (0 ≤ B 117 (80 * r + i) ∧ B 117 (80 * r + i) ≤ 128) ∧ (0 ≤ B 118 (80 * r + i) ∧ B 118 (80 * r + i) ≤ 96)) ∧ (∀ i j, 0 ≤ i → i ≤ j → j < B 114 r → B 119 (80 * r + i) ≤ B 119 (80 * r + j)) ∧ (∀ i j k, 0 ≤ i → i ≤ j → j ≤ k → k < B 114 r → B 120 (80 * r + i) = B 120 (80 * r + k) → B 120 (80 * r + j) = B 120 (80 * r + i)) ∧ ∀ i j, 0 ≤ i → i < B 114 r → 0 ≤ j → j < B 114 r → B 119 (80 * r + i) = B 119 (80 * r + j) → B 120 (80 * r + i) = B 120 (80 * r + j)
def Shc (B : rhM) (o w : Int) : Prop := (B 115 o < B 115 w + B 117 w) ∧ (B 115 w < B 115 o + B 117 o)
theorem c_shcM (hm : rh_ms wm) {B : rhM} {o w : Int} (ho : 0 ≤ o ∧ o < 320) (hw : 0 ≤ w ∧ w < 320) (b1 : 0 ≤ B 115 o ∧ B 115 o ≤ 128) (b2 : 0 ≤ B 117 o ∧ B 117 o ≤ 128) (b3 : 0 ≤ B 115 w ∧ B 115 w ≤ 128) (b4 : 0 ≤ B 117 w ∧ B 117 w ≤ 128) : eC wm YX32_shareColumns 0 [(2, 0), (0, o), (0, w)] B (rh_if (Shc B o w) 1 0) B := by
  refine eC.of1 (rC1.of (by decide) (LE0 rfl) ?_)
  refine rh1.of (rX32_shareColumns_0 hm _ _ _ ?_)
  exact ⟨ho, hw, hw, ⟨by omega, by omega⟩, fun _ => hw, fun _ => ho, fun _ => ho, fun _ => ⟨by omega, by omega⟩, rfl, rfl⟩
theorem c_shcH (hh : rh_hs wh) {A B : rhM} {x r i j : Int} (hx : rh_bl wh 2 x 0) (hi : 0 ≤ i ∧ i < 80) (hj : 0 ≤ j ∧ j < 80) (e1 : A (x + 6) (4 * i) = B 115 (80 * r + i) ∧ A (x + 6) (4 * i + 2) = B 117 (80 * r + i)) (e2 : A (x + 6) (4 * j) = B 115 (80 * r + j) ∧ A (x + 6) (4 * j + 2) = B 117 (80 * r + j)) (b1 : 0 ≤ B 115 (80 * r + i) ∧ B 115 (80 * r + i) ≤ 128) (b2 : 0 ≤ B 117 (80 * r + i) ∧ B 117 (80 * r + i) ≤ 128) (b3 : 0 ≤ B 115 (80 * r + j) ∧ B 115 (80 * r + j) ≤ 128) (b4 : 0 ≤ B 117 (80 * r + j) ∧ B 117 (80 * r + j) ≤ 128) : eC wh YX27_shareColumn 0 [(2, x), (0, i), (0, j)] A (rh_if (Shc B (80 * r + j) (80 * r + i)) 1 0) A := by
  refine eC.of1 (rC1.of (by decide) (LE0 rfl) ?_)
  refine rh1.of (rX27_shareColumn_0 hh _ _ _ _ hx ?_)
  rw [e1.1, e1.2, e2.1, e2.2]
  refine ⟨⟨by omega, by omega⟩, ⟨by omega, by omega⟩, ⟨by omega, by omega⟩, ⟨by omega, by omega⟩, fun _ => ⟨by omega, by omega⟩, fun _ => ⟨by omega, by omega⟩, fun _ => ⟨by omega, by omega⟩, fun _ => ⟨by omega, by omega⟩, if_cg ⟨fun z => ⟨z.2, z.1⟩, fun z => ⟨z.2, z.1⟩⟩, rfl⟩
/-- what a reading is to both sides here -/
def Trg (A B : rhM) (x r n : Int) : Prop := A x 1 = n ∧ B 114 r = n ∧ (0 ≤ n ∧ n ≤ 80) ∧ (∀ i, 0 ≤ i → i < n → (A (x + 6) (4 * i) = B 115 (80 * r + i) ∧ A (x + 6) (4 * i + 2) = B 117 (80 * r + i)) ∧ A (x + 7) i = B 119 (80 * r + i) ∧ A (x + 8) i = B 120 (80 * r + i)) ∧ (∀ i, 0 ≤ i → i < n → (0 ≤ B 115 (80 * r + i) ∧ B 115 (80 * r + i) ≤ 128) ∧ (0 ≤ B 117 (80 * r + i) ∧ B 117 (80 * r + i) ≤ 128)) ∧ (∀ i j, 0 ≤ i → i ≤ j → j < n → B 119 (80 * r + i) ≤ B 119 (80 * r + j)) ∧ (∀ i j k, 0 ≤ i → i ≤ j → j ≤ k → k < n → B 120 (80 * r + i) = B 120 (80 * r + k) → B 120 (80 * r + j) = B 120 (80 * r + i))
/-- below, above -/
def Qv (B : rhM) (r i k : Int) : Prop := B 120 (80 * r + k) = B 120 (80 * r + i) ∧ B 119 (80 * r + i) < B 119 (80 * r + k) ∧ Shc B (80 * r + k) (80 * r + i)
def Qu (B : rhM) (r i k : Int) : Prop := B 120 (80 * r + k) = B 120 (80 * r + i) ∧ B 119 (80 * r + k) < B 119 (80 * r + i) ∧ Shc B (80 * r + k) (80 * r + i)
def Rv (B : rhM) (r i n v : Int) : Prop := (v = -1 ∧ ∀ k, 0 ≤ k → k < n → ¬ Qv B r i k) ∨ ((0 ≤ v ∧ v < n) ∧ Qv B r i v ∧ ∀ k, 0 ≤ k → k < v → ¬ Qv B r i k)
def Ru (B : rhM) (r i n v : Int) : Prop := (v = -1 ∧ ∀ k, 0 ≤ k → k < n → ¬ Qu B r i k) ∨ ((0 ≤ v ∧ v < n) ∧ Qu B r i v ∧ (∀ k, 0 ≤ k → k < n → Qu B r i k → B 119 (80 * r + k) ≤ B 119 (80 * r + v)) ∧ ∀ k, 0 ≤ k → k < v → Qu B r i k → B 119 (80 * r + k) ≠ B 119 (80 * r + v))
theorem Rv.one {B : rhM} {r i n v w : Int} (h : Rv B r i n v) (h' : Rv B r i n w) : v = w := by
  rcases h with ⟨a1, a2⟩ | ⟨a1, a2, a3⟩
  · rcases h' with ⟨b1, -⟩ | ⟨b1, b2, -⟩
    · omega
    · exact absurd b2 (a2 w b1.1 b1.2)
  · rcases h' with ⟨b1, b2⟩ | ⟨b1, b2, b3⟩
    · exact absurd a2 (b2 v a1.1 a1.2)
    · by_cases y : v < w
      · exact absurd a2 (b3 v a1.1 y)
      · by_cases y2 : w < v
        · exact absurd b2 (a3 w b1.1 y2)
        · omega
theorem Ru.one {B : rhM} {r i n v w : Int} (h : Ru B r i n v) (h' : Ru B r i n w) : v = w := by
  rcases h with ⟨a1, a2⟩ | ⟨a1, a2, a3, a4⟩
  · rcases h' with ⟨b1, -⟩ | ⟨b1, b2, -⟩
    · omega
    · exact absurd b2 (a2 w b1.1 b1.2)
  · rcases h' with ⟨b1, b2⟩ | ⟨b1, b2, b3, b4⟩
    · exact absurd a2 (b2 v a1.1 a1.2)
    · have e1 := a3 w b1.1 b1.2 b2
      have e2 := b3 v a1.1 a1.2 a2
      by_cases y : v < w
      · exact absurd (show B 119 (80 * r + v) = B 119 (80 * r + w) by omega) (b4 v a1.1 y a2)
      · by_cases y2 : w < v
        · exact absurd (show B 119 (80 * r + w) = B 119 (80 * r + v) by omega) (a4 w b1.1 y2 b2)
        · omega
theorem h_tgV (hh : rh_hs wh) {A B : rhM} {x r n i : Int} (hx : rh_bl wh 2 x 0) (T : Trg A B x r n) (hi : 0 ≤ i ∧ i < n) : ∀ (u : Nat) (j : Int), j + u = n → i < j → (∀ k, 0 ≤ k → k < j → ¬ Qv B r i k) → ∃ v, Rv B r i n v ∧ ∀ P : Int → rhM → Prop, P v A → rh1 wh YX27_target 1 114 [(0, 2, x), (1, 0, i), (3, 0, j)] [] A P := by
  obtain ⟨t1, t2, t3, t4, t5, t6, t7⟩ := T
  intro u
  induction u with
  | zero =>
    intro j hj ij hno
    refine ⟨-1, .inl ⟨rfl, fun k k0 k1 => hno k k0 (by omega)⟩, fun P HP => ?_⟩
    refine rh1.of (rX27_target_114 hh _ _ _ _ hx ?_)
    rw [t1]
    exact ⟨fun y => by omega, fun y => by omega, fun y => by omega, fun _ => HP⟩
  | succ u ih =>
    intro j hj ij hno
    obtain ⟨ei, li, bi⟩ := t4 i hi.1 hi.2
    obtain ⟨ej, lj, bj⟩ := t4 j (by omega) (by omega)
    by_cases bq : B 120 (80 * r + j) = B 120 (80 * r + i)
    · by_cases lq : B 119 (80 * r + i) < B 119 (80 * r + j)
      · have S := c_shcH hh hx (A := A) (B := B) (r := r) (i := i) (j := j) ⟨by omega, by omega⟩ ⟨by omega, by omega⟩ ei ej (t5 i hi.1 hi.2).1 (t5 i hi.1 hi.2).2 (t5 j (by omega) (by omega)).1 (t5 j (by omega) (by omega)).2
        by_cases sq : Shc B (80 * r + j) (80 * r + i)
        · refine ⟨j, .inr ⟨⟨by omega, by omega⟩, ⟨bq, lq, sq⟩, hno⟩, fun P HP => ?_⟩
          refine rh1.of (rX27_target_114 hh _ _ _ _ hx ?_)
          rw [t1, li, lj, bi, bj]
          refine ⟨fun _ => ⟨by omega, by omega⟩, fun _ => ⟨by omega, by omega⟩, fun _ => ⟨⟨by omega, by omega⟩, ⟨by omega, by omega⟩, fun _ => rh1.s (vX27_target_155 S (LE0 rfl)) ?_, fun y => absurd lq y⟩, fun y => absurd ⟨by omega, bq⟩ y⟩
          refine rh1.of (rX27_target_158 hh _ _ _ _ _ hx ?_)
          exact ⟨fun _ => HP, fun y => absurd (if10.1.mpr sq) y⟩
        · obtain ⟨v, rv, H⟩ := ih (j + 1) (by omega) (by omega) (fun k k0 k1 q => by
            by_cases y : k = j
            · rw [y] at q; exact sq q.2.2
            · exact hno k k0 (by omega) q)
          refine ⟨v, rv, fun P HP => ?_⟩
          refine rh1.of (rX27_target_114 hh _ _ _ _ hx ?_)
          rw [t1, li, lj, bi, bj]
          refine ⟨fun _ => ⟨by omega, by omega⟩, fun _ => ⟨by omega, by omega⟩, fun _ => ⟨⟨by omega, by omega⟩, ⟨by omega, by omega⟩, fun _ => rh1.s (vX27_target_155 S (LE0 rfl)) ?_, fun y => absurd lq y⟩, fun y => absurd ⟨by omega, bq⟩ y⟩
          refine rh1.of (rX27_target_158 hh _ _ _ _ _ hx ?_)
          exact ⟨fun y => absurd (if10.1.mp y) sq, fun _ => ⟨⟨by omega, by omega⟩, H P HP⟩⟩
      · obtain ⟨v, rv, H⟩ := ih (j + 1) (by omega) (by omega) (fun k k0 k1 q => by
          by_cases y : k = j
          · rw [y] at q; exact lq q.2.1
          · exact hno k k0 (by omega) q)
        refine ⟨v, rv, fun P HP => ?_⟩
        refine rh1.of (rX27_target_114 hh _ _ _ _ hx ?_)
        rw [t1, li, lj, bi, bj]
        exact ⟨fun _ => ⟨by omega, by omega⟩, fun _ => ⟨by omega, by omega⟩, fun _ => ⟨⟨by omega, by omega⟩, ⟨by omega, by omega⟩, fun y => absurd y lq, fun _ => ⟨⟨by omega, by omega⟩, H P HP⟩⟩, fun y => absurd ⟨by omega, bq⟩ y⟩
    · refine ⟨-1, .inl ⟨rfl, fun k k0 k1 q => ?_⟩, fun P HP => ?_⟩
      · by_cases y : k < j
        · exact hno k k0 y q
        · have := t7 i j k hi.1 (by omega) (by omega) k1 q.1.symm
          exact bq this
      · refine rh1.of (rX27_target_114 hh _ _ _ _ hx ?_)
        rw [t1, bi, bj]
        exact ⟨fun _ => ⟨by omega, by omega⟩, fun _ => ⟨by omega, by omega⟩, fun y => absurd y.2 bq, fun _ => HP⟩
theorem h_tgU (hh : rh_hs wh) {A B : rhM} {x r n i : Int} (hx : rh_bl wh 2 x 0) (T : Trg A B x r n) (hi : 0 ≤ i ∧ i < n) : ∀ (u : Nat) (j b : Int), j + 1 = u → j < i → ((b = -1 ∧ ∀ k, j < k → k < i → ¬ Qu B r i k) ∨ ((j < b ∧ b < i) ∧ Qu B r i b ∧ (∀ k, j < k → k < i → Qu B r i k → B 119 (80 * r + k) ≤ B 119 (80 * r + b)) ∧ ∀ k, j < k → k < b → Qu B r i k → B 119 (80 * r + k) ≠ B 119 (80 * r + b))) → ∃ v, Ru B r i n v ∧ ∀ P : Int → rhM → Prop, P v A → rh1 wh YX27_target 1 178 [(0, 2, x), (1, 0, i), (3, 0, b), (4, 0, j)] [] A P := by
  obtain ⟨t1, t2, t3, t4, t5, t6, t7⟩ := T
  -- above a word lie earlier ones
  have lo : ∀ k, 0 ≤ k → k < n → Qu B r i k → k < i := fun k k0 k1 q => by
    by_cases y : k < i
    · exact y
    · have := t6 i k hi.1 (by omega) k1
      have := q.2.1
      omega
  have fin : ∀ j b, -1 ≤ j → (∀ k, 0 ≤ k → k ≤ j → ¬ Qu B r i k) → ((b = -1 ∧ ∀ k, j < k → k < i → ¬ Qu B r i k) ∨ ((j < b ∧ b < i) ∧ Qu B r i b ∧ (∀ k, j < k → k < i → Qu B r i k → B 119 (80 * r + k) ≤ B 119 (80 * r + b)) ∧ ∀ k, j < k → k < b → Qu B r i k → B 119 (80 * r + k) ≠ B 119 (80 * r + b))) → Ru B r i n b := fun j b hj hno hb => by
    rcases hb with ⟨b1, b2⟩ | ⟨b1, b2, b3, b4⟩
    · refine .inl ⟨b1, fun k k0 k1 q => ?_⟩
      have := lo k k0 k1 q
      by_cases y : k ≤ j
      · exact hno k k0 y q
      · exact b2 k (by omega) this q
    · refine .inr ⟨⟨by omega, by omega⟩, b2, fun k k0 k1 q => ?_, fun k k0 k1 q => ?_⟩
      · have := lo k k0 k1 q
        by_cases y : k ≤ j
        · exact absurd q (hno k k0 y)
        · exact b3 k (by omega) this q
      · by_cases y : k ≤ j
        · exact absurd q (hno k k0 y)
        · exact b4 k (by omega) k1 q
  intro u
  induction u with
  | zero =>
    intro j b hj ji hb
    have ej : j = -1 := by omega
    refine ⟨b, fin j b (by omega) (fun k k0 k1 => by omega) hb, fun P HP => ?_⟩
    rw [ej]
    refine rh1.of (rX27_target_178 hh _ _ _ _ _ hx ?_)
    exact ⟨fun y => absurd y (by decide), fun y => absurd y (by decide), fun y => absurd y.1 (by decide), fun _ => HP⟩
  | succ u ih =>
    intro j b hj ji hb
    obtain ⟨ei, li, bi⟩ := t4 i hi.1 hi.2
    obtain ⟨ej, lj, bj⟩ := t4 j (by omega) (by omega)
    by_cases bq : B 120 (80 * r + j) = B 120 (80 * r + i)
    case neg =>
      refine ⟨b, fin j b (by omega) (fun k k0 k1 q => bq ?_) hb, fun P HP => ?_⟩
      · have := t7 k j i k0 k1 (by omega) hi.2 q.1
        rw [this]; exact q.1
      · refine rh1.of (rX27_target_178 hh _ _ _ _ _ hx ?_)
        rw [bi, bj]
        exact ⟨fun _ => ⟨by omega, by omega⟩, fun _ => ⟨by omega, by omega⟩, fun y => absurd y.2 bq, fun _ => HP⟩
    -- keep what there is
    have keep : ¬ Qu B r i j → ((b = -1 ∧ ∀ k, j - 1 < k → k < i → ¬ Qu B r i k) ∨ ((j - 1 < b ∧ b < i) ∧ Qu B r i b ∧ (∀ k, j - 1 < k → k < i → Qu B r i k → B 119 (80 * r + k) ≤ B 119 (80 * r + b)) ∧ ∀ k, j - 1 < k → k < b → Qu B r i k → B 119 (80 * r + k) ≠ B 119 (80 * r + b))) := fun nq => by
      rcases hb with ⟨b1, b2⟩ | ⟨b1, b2, b3, b4⟩
      · refine .inl ⟨b1, fun k k0 k1 => ?_⟩
        by_cases y : k = j
        · rw [y]; exact nq
        · exact b2 k (by omega) k1
      · refine .inr ⟨⟨by omega, by omega⟩, b2, fun k k0 k1 q => ?_, fun k k0 k1 q => ?_⟩
        · by_cases y : k = j
          · rw [y] at q; exact absurd q nq
          · exact b3 k (by omega) k1 q
        · by_cases y : k = j
          · rw [y] at q; exact absurd q nq
          · exact b4 k (by omega) k1 q
    have brange : b = -1 ∨ (0 ≤ b ∧ b < 80) := by
      rcases hb with ⟨b1, -⟩ | ⟨b1, -⟩
      · exact .inl b1
      · exact .inr (by omega)
    by_cases lq : B 119 (80 * r + j) < B 119 (80 * r + i)
    · have S := c_shcH hh hx (A := A) (B := B) (r := r) (i := i) (j := j) ⟨by omega, by omega⟩ ⟨by omega, by omega⟩ ei ej (t5 i hi.1 hi.2).1 (t5 i hi.1 hi.2).2 (t5 j (by omega) (by omega)).1 (t5 j (by omega) (by omega)).2
      by_cases sq : Shc B (80 * r + j) (80 * r + i)
      · have qj : Qu B r i j := ⟨bq, lq, sq⟩
        obtain ⟨b', hb'⟩ : ∃ b', b' = rh_if ((b = -1) ∨ (A (x + 7) j = A (x + 7) b)) j b := ⟨_, rfl⟩
        have hn : ((b' = -1 ∧ ∀ k, j - 1 < k → k < i → ¬ Qu B r i k) ∨ ((j - 1 < b' ∧ b' < i) ∧ Qu B r i b' ∧ (∀ k, j - 1 < k → k < i → Qu B r i k → B 119 (80 * r + k) ≤ B 119 (80 * r + b')) ∧ ∀ k, j - 1 < k → k < b' → Qu B r i k → B 119 (80 * r + k) ≠ B 119 (80 * r + b'))) := by
          rcases hb with ⟨b1, b2⟩ | ⟨b1, b2, b3, b4⟩
          · rw [hb', rh_if_t (.inl b1)]
            refine .inr ⟨⟨by omega, by omega⟩, qj, fun k k0 k1 q => ?_, fun k k0 k1 => by omega⟩
            by_cases y : k = j
            · rw [y]; exact Int.le_refl _
            · exact absurd q (b2 k (by omega) k1)
          · have lb := (t4 b (by omega) (by omega)).2.1
            by_cases y : A (x + 7) j = A (x + 7) b
            · rw [hb', rh_if_t (.inr y)]
              rw [lj, lb] at y
              refine .inr ⟨⟨by omega, by omega⟩, qj, fun k k0 k1 q => ?_, fun k k0 k1 => by omega⟩
              by_cases y2 : k = j
              · rw [y2]; exact Int.le_refl _
              · rw [y]; exact b3 k (by omega) k1 q
            · rw [hb', rh_if_f (fun z => z.elim (fun z => by omega) y)]
              rw [lj, lb] at y
              have mo := t6 j b (by omega) (by omega) (by omega)
              refine .inr ⟨⟨by omega, by omega⟩, b2, fun k k0 k1 q => ?_, fun k k0 k1 q => ?_⟩
              · by_cases y2 : k = j
                · rw [y2]; exact mo
                · exact b3 k (by omega) k1 q
              · by_cases y2 : k = j
                · rw [y2]; exact y
                · exact b4 k (by omega) k1 q
        obtain ⟨v, rv, H⟩ := ih (j - 1) b' (by omega) (by omega) hn
        refine ⟨v, rv, fun P HP => ?_⟩
        refine rh1.of (rX27_target_178 hh _ _ _ _ _ hx ?_)
        rw [li, lj, bi, bj]
        refine ⟨fun _ => ⟨by omega, by omega⟩, fun _ => ⟨by omega, by omega⟩, fun _ => ⟨⟨by omega, by omega⟩, ⟨by omega, by omega⟩, fun _ => rh1.s (vX27_target_219 S (LE0 rfl)) ?_, fun y => absurd lq y⟩, fun y => absurd ⟨by omega, bq⟩ y⟩
        refine rh1.of (rX27_target_222 hh _ _ _ _ _ _ hx ?_)
        intro f hf
        have f1 : f ≠ 0 := by rw [hf]; exact if10.1.mpr (if10.1.mpr sq)
        refine ⟨fun _ => ⟨fun _ => ⟨by omega, by omega⟩, fun y => by omega, fun c hc => ⟨⟨by omega, by omega⟩, ?_⟩⟩, fun y => absurd f1 y⟩
        rw [hc, ← hb', show j + (-1) = j - 1 by omega]
        exact H P HP
      · obtain ⟨v, rv, H⟩ := ih (j - 1) b (by omega) (by omega) (keep (fun q => sq q.2.2))
        refine ⟨v, rv, fun P HP => ?_⟩
        refine rh1.of (rX27_target_178 hh _ _ _ _ _ hx ?_)
        rw [li, lj, bi, bj]
        refine ⟨fun _ => ⟨by omega, by omega⟩, fun _ => ⟨by omega, by omega⟩, fun _ => ⟨⟨by omega, by omega⟩, ⟨by omega, by omega⟩, fun _ => rh1.s (vX27_target_219 S (LE0 rfl)) ?_, fun y => absurd lq y⟩, fun y => absurd ⟨by omega, bq⟩ y⟩
        refine rh1.of (rX27_target_222 hh _ _ _ _ _ _ hx ?_)
        intro f hf
        have f0 : f = 0 := by rw [hf]; exact if10.2.1.mpr (fun z => sq (if10.1.mp z))
        refine ⟨fun y => absurd f0 y, fun _ c hc => ⟨⟨by omega, by omega⟩, ?_⟩⟩
        rw [hc, show j + (-1) = j - 1 by omega]
        exact H P HP
    · obtain ⟨v, rv, H⟩ := ih (j - 1) b (by omega) (by omega) (keep (fun q => lq q.2.1))
      refine ⟨v, rv, fun P HP => ?_⟩
      refine rh1.of (rX27_target_178 hh _ _ _ _ _ hx ?_)
      rw [li, lj, bi, bj]
      refine ⟨fun _ => ⟨by omega, by omega⟩, fun _ => ⟨by omega, by omega⟩, fun _ => ⟨⟨by omega, by omega⟩, ⟨by omega, by omega⟩, fun y => absurd y lq, fun _ f hf => ⟨fun y => absurd hf y, fun _ c hc => ⟨⟨by omega, by omega⟩, ?_⟩⟩⟩, fun y => absurd ⟨by omega, bq⟩ y⟩
      rw [hc, show j + (-1) = j - 1 by omega]
      exact H P HP
/-- the model's round: one word -/
theorem m_tgS (hm : rh_ms wm) {A B : rhM} {x r n i wv : Int} (T : Trg A B x r n) (hr : 0 ≤ r ∧ r < 4) (hi : 0 ≤ i ∧ i < n) {k b : Int} (hk : 0 ≤ k ∧ k < n) (hb : b = -1 ∨ (0 ≤ b ∧ b < n)) (Q : Prop) (hQ : Q ↔ (B 120 (80 * r + k) = B 120 (80 * r + i) ∧ (rh_if (wv = 118) (rh_if (B 119 (80 * r + i) < B 119 (80 * r + k)) 1 0) (rh_if (B 119 (80 * r + k) < B 119 (80 * r + i)) 1 0) : Int) ≠ 0 ∧ (rh_if (b = -1) 1 (rh_if (wv = 118) (rh_if (B 119 (80 * r + k) < B 119 (80 * r + b)) 1 0) (rh_if (B 119 (80 * r + b) < B 119 (80 * r + k)) 1 0)) : Int) ≠ 0) ∧ Shc B (80 * r + k) (80 * r + i)) (P : Int → rhM → Prop) (HP : rh1 wm YX32_wordFrom 1 108 [(0, 2, 0), (1, 0, r), (3, 0, wv), (4, 0, 80 * r + i), (5, 0, n), (6, 0, rh_if Q k b), (7, 0, k + 1)] [] B P) : rh1 wm YX32_wordFrom 1 108 [(0, 2, 0), (1, 0, r), (3, 0, wv), (4, 0, 80 * r + i), (5, 0, n), (6, 0, b), (7, 0, k)] [] B P := by
  obtain ⟨t1, t2, t3, t4, t5, t6, t7⟩ := T
  have S := c_shcM hm (B := B) (o := 80 * r + k) (w := 80 * r + i) ⟨by omega, by omega⟩ ⟨by omega, by omega⟩ (t5 k hk.1 hk.2).1 (t5 k hk.1 hk.2).2 (t5 i hi.1 hi.2).1 (t5 i hi.1 hi.2).2
  have ri : 0 ≤ 80 * r + i ∧ 80 * r + i < 320 := ⟨by omega, by omega⟩
  have rk : 0 ≤ 80 * r + k ∧ 80 * r + k < 320 := ⟨by omega, by omega⟩
  have go : ∀ s e : Int, s = rh_if (wv = 118) (rh_if (B 119 (80 * r + i) < B 119 (80 * r + k)) 1 0) (rh_if (B 119 (80 * r + k) < B 119 (80 * r + i)) 1 0) → e = rh_if (b = -1) 1 (rh_if (wv = 118) (rh_if (B 119 (80 * r + k) < B 119 (80 * r + b)) 1 0) (rh_if (B 119 (80 * r + b) < B 119 (80 * r + k)) 1 0)) → ((((B 120 (80 * r + k)) = (B 120 (80 * r + i))) ∧ ((s ≠ 0) ∧ (e ≠ 0))) → rh1 wm YX32_wordFrom 1 277 [(0, 2, 0), (1, 0, r), (3, 0, wv), (4, 0, 80 * r + i), (5, 0, n), (6, 0, b), (7, 0, k)] [(0, 80 * r + i), (0, 80 * r + k), (2, 0)] B P) ∧ (¬ (((B 120 (80 * r + k)) = (B 120 (80 * r + i))) ∧ ((s ≠ 0) ∧ (e ≠ 0))) → rI (k + 1) ∧ rh1 wm YX32_wordFrom 1 108 [(0, 2, 0), (1, 0, r), (3, 0, wv), (4, 0, 80 * r + i), (5, 0, n), (6, 0, b), (7, 0, k + 1)] [] B P) := fun s e hs he => by
    refine ⟨fun c => rh1.s (vX32_wordFrom_277 hm S (LE0 rfl)) ?_, fun c => ⟨⟨by omega, by omega⟩, ?_⟩⟩
    · refine rh1.of (rX32_wordFrom_280 hm _ _ _ _ _ _ _ _ ?_)
      refine ⟨⟨by omega, by omega⟩, ?_⟩
      rw [hs, he] at c
      have e1 : rh_if ((rh_if (Shc B (80 * r + k) (80 * r + i)) (1 : Int) 0) ≠ 0) k b = rh_if Q k b := if_cg ⟨fun z => hQ.mpr ⟨c, if10.1.mp z⟩, fun z => if10.1.mpr (hQ.mp z).2⟩
      rw [e1]
      exact HP
    · rw [hs, he] at c
      rw [rh_if_f (fun z => c (hQ.mp z).1)] at HP
      exact HP
  refine rh1.of (rX32_wordFrom_108 hm _ _ _ _ _ _ _ ?_)
  refine ⟨fun _ => ⟨⟨by omega, by omega⟩, fun w8 => ⟨rk, ri, fun s hs => ?_⟩, fun w8 => ⟨rk, ri, fun s hs => ?_⟩⟩, fun z => by omega⟩
  · have hs' : s = rh_if (wv = 118) (rh_if (B 119 (80 * r + i) < B 119 (80 * r + k)) 1 0) (rh_if (B 119 (80 * r + k) < B 119 (80 * r + i)) 1 0) := by rw [rh_if_t w8]; exact hs
    refine ⟨fun bn => ⟨fun _ => ⟨rk, by omega, fun e he => ⟨rk, ri, go s e hs' ?_⟩⟩, fun y => absurd w8 y⟩, fun bn e he => ⟨rk, ri, go s e hs' ?_⟩⟩
    · rw [rh_if_f bn, rh_if_t w8]; exact he
    · rw [rh_if_t (Classical.not_not.mp bn)]; exact he
  · have hs' : s = rh_if (wv = 118) (rh_if (B 119 (80 * r + i) < B 119 (80 * r + k)) 1 0) (rh_if (B 119 (80 * r + k) < B 119 (80 * r + i)) 1 0) := by rw [rh_if_f w8]; exact hs
    refine ⟨fun bn => ⟨fun y => absurd y w8, fun _ => ⟨rk, by omega, fun e he => ⟨rk, ri, go s e hs' ?_⟩⟩⟩, fun bn e he => ⟨rk, ri, go s e hs' ?_⟩⟩
    · rw [rh_if_f bn, rh_if_f w8]; exact he
    · rw [rh_if_t (Classical.not_not.mp bn)]; exact he
theorem m_tgV (hm : rh_ms wm) {A B : rhM} {x r n i : Int} (T : Trg A B x r n) (hr : 0 ≤ r ∧ r < 4) (hi : 0 ≤ i ∧ i < n) : ∀ (u : Nat) (k b : Int), k + u = n → 0 ≤ k → ((b = -1 ∧ ∀ j, 0 ≤ j → j < k → ¬ Qv B r i j) ∨ ((0 ≤ b ∧ b < k) ∧ Qv B r i b ∧ ∀ j, 0 ≤ j → j < b → ¬ Qv B r i j)) → ∃ v, Rv B r i n v ∧ ∀ P : Int → rhM → Prop, P v B → rh1 wm YX32_wordFrom 1 108 [(0, 2, 0), (1, 0, r), (3, 0, 118), (4, 0, 80 * r + i), (5, 0, n), (6, 0, b), (7, 0, k)] [] B P := by
  intro u
  induction u with
  | zero =>
    intro k b hk k0 hb
    refine ⟨b, ?_, fun P HP => ?_⟩
    · rcases hb with ⟨b1, b2⟩ | ⟨b1, b2, b3⟩
      · exact .inl ⟨b1, fun j j0 j1 => b2 j j0 (by omega)⟩
      · exact .inr ⟨⟨by omega, by omega⟩, b2, b3⟩
    · refine rh1.of (rX32_wordFrom_108 hm _ _ _ _ _ _ _ ?_)
      exact ⟨fun z => by omega, fun _ => HP⟩
  | succ u ih =>
    intro k b hk k0 hb
    have bR : b = -1 ∨ (0 ≤ b ∧ b < n) := by rcases hb with ⟨b1, -⟩ | ⟨b1, -⟩; exact .inl b1; exact .inr ⟨by omega, by omega⟩
    have hQ : (b = -1 ∧ Qv B r i k) ↔ (B 120 (80 * r + k) = B 120 (80 * r + i) ∧ (rh_if ((118 : Int) = 118) (rh_if (B 119 (80 * r + i) < B 119 (80 * r + k)) 1 0) (rh_if (B 119 (80 * r + k) < B 119 (80 * r + i)) 1 0) : Int) ≠ 0 ∧ (rh_if (b = -1) 1 (rh_if ((118 : Int) = 118) (rh_if (B 119 (80 * r + k) < B 119 (80 * r + b)) 1 0) (rh_if (B 119 (80 * r + b) < B 119 (80 * r + k)) 1 0)) : Int) ≠ 0) ∧ Shc B (80 * r + k) (80 * r + i) := by
      rw [rh_if_t rfl, rh_if_t rfl]
      constructor
      · rintro ⟨b1, q1, q2, q3⟩
        exact ⟨⟨q1, if10.1.mpr q2, by rw [rh_if_t b1]; decide⟩, q3⟩
      · rintro ⟨⟨q1, q2, q3⟩, q4⟩
        refine ⟨?_, q1, if10.1.mp q2, q4⟩
        rcases hb with ⟨b1, -⟩ | ⟨b1, -⟩
        · exact b1
        · rw [rh_if_f (by omega)] at q3
          have := if10.1.mp q3
          have := T.2.2.2.2.2.1 b k b1.1 (by omega) (by omega)
          omega
    by_cases q : b = -1 ∧ Qv B r i k
    · obtain ⟨v, rv, H⟩ := ih (k + 1) k (by omega) (by omega) (.inr ⟨⟨by omega, by omega⟩, q.2, fun j j0 j1 => by
        rcases hb with ⟨-, b2⟩ | ⟨b1, -⟩
        · exact b2 j j0 j1
        · omega⟩)
      exact ⟨v, rv, fun P HP => m_tgS hm T hr hi ⟨by omega, by omega⟩ bR _ hQ P (by rw [rh_if_t q]; exact H P HP)⟩
    · obtain ⟨v, rv, H⟩ := ih (k + 1) b (by omega) (by omega) (by
        rcases hb with ⟨b1, b2⟩ | ⟨b1, b2, b3⟩
        · refine .inl ⟨b1, fun j j0 j1 => ?_⟩
          by_cases y : j = k
          · rw [y]; exact fun z => q ⟨b1, z⟩
          · exact b2 j j0 (by omega)
        · exact .inr ⟨⟨by omega, by omega⟩, b2, b3⟩)
      exact ⟨v, rv, fun P HP => m_tgS hm T hr hi ⟨by omega, by omega⟩ bR _ hQ P (by rw [rh_if_f q]; exact H P HP)⟩
theorem m_tgU (hm : rh_ms wm) {A B : rhM} {x r n i wv : Int} (T : Trg A B x r n) (hr : 0 ≤ r ∧ r < 4) (hi : 0 ≤ i ∧ i < n) (hv : wv ≠ 118) : ∀ (u : Nat) (k b : Int), k + u = n → 0 ≤ k → ((b = -1 ∧ ∀ j, 0 ≤ j → j < k → ¬ Qu B r i j) ∨ ((0 ≤ b ∧ b < k) ∧ Qu B r i b ∧ (∀ j, 0 ≤ j → j < k → Qu B r i j → B 119 (80 * r + j) ≤ B 119 (80 * r + b)) ∧ ∀ j, 0 ≤ j → j < b → Qu B r i j → B 119 (80 * r + j) ≠ B 119 (80 * r + b))) → ∃ v, Ru B r i n v ∧ ∀ P : Int → rhM → Prop, P v B → rh1 wm YX32_wordFrom 1 108 [(0, 2, 0), (1, 0, r), (3, 0, wv), (4, 0, 80 * r + i), (5, 0, n), (6, 0, b), (7, 0, k)] [] B P := by
  intro u
  induction u with
  | zero =>
    intro k b hk k0 hb
    have ek : k = n := by omega
    rw [ek] at hb
    refine ⟨b, hb, fun P HP => ?_⟩
    refine rh1.of (rX32_wordFrom_108 hm _ _ _ _ _ _ _ ?_)
    exact ⟨fun z => by omega, fun _ => HP⟩
  | succ u ih =>
    intro k b hk k0 hb
    have bR : b = -1 ∨ (0 ≤ b ∧ b < n) := by rcases hb with ⟨b1, -⟩ | ⟨b1, -⟩; exact .inl b1; exact .inr ⟨by omega, by omega⟩
    have hQ : (Qu B r i k ∧ (b ≠ -1 → B 119 (80 * r + b) < B 119 (80 * r + k))) ↔ (B 120 (80 * r + k) = B 120 (80 * r + i) ∧ (rh_if (wv = 118) (rh_if (B 119 (80 * r + i) < B 119 (80 * r + k)) 1 0) (rh_if (B 119 (80 * r + k) < B 119 (80 * r + i)) 1 0) : Int) ≠ 0 ∧ (rh_if (b = -1) 1 (rh_if (wv = 118) (rh_if (B 119 (80 * r + k) < B 119 (80 * r + b)) 1 0) (rh_if (B 119 (80 * r + b) < B 119 (80 * r + k)) 1 0)) : Int) ≠ 0) ∧ Shc B (80 * r + k) (80 * r + i) := by
      rw [rh_if_f hv, rh_if_f hv]
      constructor
      · rintro ⟨⟨q1, q2, q3⟩, q4⟩
        refine ⟨⟨q1, if10.1.mpr q2, ?_⟩, q3⟩
        by_cases y : b = -1
        · rw [rh_if_t y]; decide
        · rw [rh_if_f y]; exact if10.1.mpr (q4 y)
      · rintro ⟨⟨q1, q2, q3⟩, q4⟩
        refine ⟨⟨q1, if10.1.mp q2, q4⟩, fun y => ?_⟩
        rw [rh_if_f y] at q3
        exact if10.1.mp q3
    by_cases q : Qu B r i k ∧ (b ≠ -1 → B 119 (80 * r + b) < B 119 (80 * r + k))
    · obtain ⟨v, rv, H⟩ := ih (k + 1) k (by omega) (by omega) (.inr ⟨⟨by omega, by omega⟩, q.1, fun j j0 j1 qj => by
        by_cases y : j = k
        · rw [y]; exact Int.le_refl _
        · rcases hb with ⟨-, b2⟩ | ⟨b1, -, b3, -⟩
          · exact absurd qj (b2 j j0 (by omega))
          · have := b3 j j0 (by omega) qj
            have := q.2 (by omega)
            omega, fun j j0 j1 qj => by
        rcases hb with ⟨-, b2⟩ | ⟨b1, -, b3, -⟩
        · exact absurd qj (b2 j j0 (by omega))
        · have := b3 j j0 (by omega) qj
          have := q.2 (by omega)
          omega⟩)
      exact ⟨v, rv, fun P HP => m_tgS hm T hr hi ⟨by omega, by omega⟩ bR _ hQ P (by rw [rh_if_t q]; exact H P HP)⟩
    · obtain ⟨v, rv, H⟩ := ih (k + 1) b (by omega) (by omega) (by
        rcases hb with ⟨b1, b2⟩ | ⟨b1, b2, b3, b4⟩
        · refine .inl ⟨b1, fun j j0 j1 => ?_⟩
          by_cases y : j = k
          · rw [y]; exact fun z => q ⟨z, fun w => absurd b1 w⟩
          · exact b2 j j0 (by omega)
        · refine .inr ⟨⟨by omega, by omega⟩, b2, fun j j0 j1 qj => ?_, b4⟩
          by_cases y : j = k
          · rw [y] at qj ⊢
            by_cases y2 : B 119 (80 * r + b) < B 119 (80 * r + k)
            · exact absurd ⟨qj, fun _ => y2⟩ q
            · omega
          · exact b3 j j0 (by omega) qj)
      exact ⟨v, rv, fun P HP => m_tgS hm T hr hi ⟨by omega, by omega⟩ bR _ hQ P (by rw [rh_if_f q]; exact H P HP)⟩
/-- both sides -/
theorem t_target (hh : rh_hs wh) (hm : rh_ms wm) {A B : rhM} {x r n i wv : Int} (hx : rh_bl wh 2 x 0) (T : Trg A B x r n) (hr : 0 ≤ r ∧ r < 4) (hi : 0 ≤ i ∧ i < n) (hw : wv = 64 ∨ wv = 62 ∨ wv = 60 ∨ wv = 118 ∨ wv = 94) : ∃ v, eC wh YX27_target 1 [(2, x), (0, i), (0, wv)] A v A ∧ eC wm YX32_wordFrom 1 [(2, 0), (0, r), (0, i), (0, wv)] B v B ∧ (v = -1 ∨ (0 ≤ v ∧ v < n)) := by
  have T0 := T
  obtain ⟨t1, t2, t3, t4, t5, t6, t7⟩ := T0
  have wI : rI wv := ⟨by omega, by omega⟩
  have less : ∀ {pc : Nat} {M : rhM}, eS wh YX27_target 1 pc [(0, 2, x), (1, 0, i)] [] M pc [(1, 0, i)] [] M := fun {pc M} => (eG.less (L' := [(1, 0, i)]) (fun z hz => by rw [List.mem_singleton] at hz; rw [hz]; exact List.mem_cons_of_mem _ List.mem_cons_self)).toS
  have ent : ∀ (P : Int → rhM → Prop) (pc : Nat), eS wh YX27_target 1 1 [(0, 2, x), (1, 0, i)] [(0, wv)] A pc [(0, 2, x), (1, 0, i)] [] A → rh1 wh YX27_target 1 pc [(0, 2, x), (1, 0, i)] [] A P → rh1 wh YX27_target 1 0 [(0, 2, x), (1, 0, i), (2, 0, wv)] [] A P := fun P pc E HP => by
    refine rh1.of (rX27_target_0 hh _ _ _ _ hx ?_)
    exact rh1.s E HP
  rcases hw with h | h | h | h | h
  · refine ⟨i, eC.of1 (rC1.of (by decide) (LE0 rfl) (ent _ 44 (eS_tg.2.2.1 h) (rh1.s less ?_))), eC.of1 (rC1.of (by decide) (LE0 rfl) ?_), .inr hi⟩
    · refine rh1.of (rX27_target_44 hh _ _ ?_)
      exact ⟨rfl, rfl⟩
    · refine rh1.of (rX32_wordFrom_0 hm _ _ _ _ ?_)
      exact ⟨⟨by omega, by omega⟩, ⟨by omega, by omega⟩, fun _ => ⟨rfl, rfl⟩, fun y => absurd h y⟩
  · refine ⟨rh_if ((i + 1 < n) ∧ (B 119 (80 * r + i + 1) = B 119 (80 * r + i))) (i + 1) (-1), eC.of1 (rC1.of (by decide) (LE0 rfl) (ent _ 46 (eS_tg.2.1 h) ?_)), eC.of1 (rC1.of (by decide) (LE0 rfl) ?_), ?_⟩
    · refine rh1.of (rX27_target_46 hh _ _ _ hx ?_)
      rw [t1]
      have e1 : rh_if ((i + 1 < n) ∧ (A (x + 7) (i + 1) = A (x + 7) i)) (i + 1) (-1) = rh_if ((i + 1 < n) ∧ (B 119 (80 * r + i + 1) = B 119 (80 * r + i))) (i + 1) (-1) := if_cg (by
        constructor
        · rintro ⟨z1, z2⟩
          rw [(t4 (i + 1) (by omega) z1).2.1, (t4 i hi.1 hi.2).2.1, show 80 * r + (i + 1) = 80 * r + i + 1 by omega] at z2
          exact ⟨z1, z2⟩
        · rintro ⟨z1, z2⟩
          rw [(t4 (i + 1) (by omega) z1).2.1, (t4 i hi.1 hi.2).2.1, show 80 * r + (i + 1) = 80 * r + i + 1 by omega]
          exact ⟨z1, z2⟩)
      refine ⟨⟨by omega, by omega⟩, fun _ => ⟨by omega, by omega⟩, fun _ => ⟨by omega, by omega⟩, ?_, e1, rfl⟩
      rw [rh_ifd]; split <;> exact ⟨by omega, by omega⟩
    · refine rh1.of (rX32_wordFrom_0 hm _ _ _ _ ?_)
      rw [t2]
      refine ⟨⟨by omega, by omega⟩, ⟨by omega, by omega⟩, fun y => absurd y (by omega), fun _ => ⟨fun _ => ⟨⟨by omega, by omega⟩, fun _ => ⟨by omega, by omega⟩, fun _ => ⟨by omega, by omega⟩, ?_, rfl, rfl⟩, fun y => absurd h y⟩⟩
      rw [rh_ifd]; split <;> exact ⟨by omega, by omega⟩
    · by_cases y : (i + 1 < n) ∧ (B 119 (80 * r + i + 1) = B 119 (80 * r + i))
      · rw [rh_if_t y]; exact .inr ⟨by omega, by omega⟩
      · rw [rh_if_f y]; exact .inl rfl
  · refine ⟨rh_if ((0 < i) ∧ (B 119 (80 * r + i - 1) = B 119 (80 * r + i))) (i - 1) (-1), eC.of1 (rC1.of (by decide) (LE0 rfl) (ent _ 81 (eS_tg.1 h) ?_)), eC.of1 (rC1.of (by decide) (LE0 rfl) ?_), ?_⟩
    · refine rh1.of (rX27_target_81 hh _ _ _ hx ?_)
      have e1 : rh_if ((0 < i) ∧ (A (x + 7) (i - 1) = A (x + 7) i)) (i - 1) (-1) = rh_if ((0 < i) ∧ (B 119 (80 * r + i - 1) = B 119 (80 * r + i))) (i - 1) (-1) := if_cg (by
        constructor
        · rintro ⟨z1, z2⟩
          rw [(t4 (i - 1) (by omega) (by omega)).2.1, (t4 i hi.1 hi.2).2.1, show 80 * r + (i - 1) = 80 * r + i - 1 by omega] at z2
          exact ⟨z1, z2⟩
        · rintro ⟨z1, z2⟩
          rw [(t4 (i - 1) (by omega) (by omega)).2.1, (t4 i hi.1 hi.2).2.1, show 80 * r + (i - 1) = 80 * r + i - 1 by omega]
          exact ⟨z1, z2⟩)
      refine ⟨fun _ => ⟨by omega, by omega⟩, fun _ => ⟨by omega, by omega⟩, ?_, e1, rfl⟩
      rw [rh_ifd]; split <;> exact ⟨by omega, by omega⟩
    · refine rh1.of (rX32_wordFrom_0 hm _ _ _ _ ?_)
      refine ⟨⟨by omega, by omega⟩, ⟨by omega, by omega⟩, fun y => absurd y (by omega), fun _ => ⟨fun y => absurd y (by omega), fun _ => ⟨fun _ => ⟨fun _ => ⟨by omega, by omega⟩, fun _ => ⟨by omega, by omega⟩, ?_, rfl, rfl⟩, fun y => absurd h y⟩⟩⟩
      rw [rh_ifd]; split <;> exact ⟨by omega, by omega⟩
    · by_cases y : (0 < i) ∧ (B 119 (80 * r + i - 1) = B 119 (80 * r + i))
      · rw [rh_if_t y]; exact .inr ⟨by omega, by omega⟩
      · rw [rh_if_f y]; exact .inl rfl
  · obtain ⟨v, rv, H⟩ := h_tgV hh hx T hi (n - (i + 1)).toNat (i + 1) (by omega) (by omega) (fun k k0 k1 q => by
      have := t6 k i k0 (by omega) hi.2
      have := q.2.1
      omega)
    obtain ⟨v', rv', H'⟩ := m_tgV hm T hr hi n.toNat 0 (-1) (by omega) (by decide) (.inl ⟨rfl, fun j j0 j1 => by omega⟩)
    have e := rv'.one rv
    rw [e] at H'
    refine ⟨v, eC.of1 (rC1.of (by decide) (LE0 rfl) (ent _ 110 (eS_tg.2.2.2.1 h) ?_)), eC.of1 (rC1.of (by decide) (LE0 rfl) ?_), ?_⟩
    · refine rh1.of (rX27_target_110 hh _ _ _ hx ?_)
      exact ⟨⟨by omega, by omega⟩, H _ ⟨rfl, rfl⟩⟩
    · refine rh1.of (rX32_wordFrom_0 hm _ _ _ _ ?_)
      rw [t2, h]
      exact ⟨⟨by omega, by omega⟩, ⟨by omega, by omega⟩, fun y => absurd y (by decide), fun _ => ⟨fun y => absurd y (by decide), fun _ => ⟨fun y => absurd y (by decide), fun _ => H' _ ⟨rfl, rfl⟩⟩⟩⟩
    · rcases rv with ⟨v1, -⟩ | ⟨v1, -⟩
      · exact .inl v1
      · exact .inr v1
  · obtain ⟨v, rv, H⟩ := h_tgU hh hx T hi i.toNat (i - 1) (-1) (by omega) (by omega) (.inl ⟨rfl, fun k k0 k1 => by omega⟩)
    obtain ⟨v', rv', H'⟩ := m_tgU hm (wv := wv) T hr hi (by omega) n.toNat 0 (-1) (by omega) (by decide) (.inl ⟨rfl, fun j j0 j1 => by omega⟩)
    have e := rv'.one rv
    rw [e] at H'
    refine ⟨v, eC.of1 (rC1.of (by decide) (LE0 rfl) (ent _ 171 (eS_tg.2.2.2.2 (by omega)) ?_)), eC.of1 (rC1.of (by decide) (LE0 rfl) ?_), ?_⟩
    · refine rh1.of (rX27_target_171 hh _ _ _ hx ?_)
      exact ⟨⟨by omega, by omega⟩, H _ ⟨rfl, rfl⟩⟩
    · refine rh1.of (rX32_wordFrom_0 hm _ _ _ _ ?_)
      rw [t2]
      exact ⟨⟨by omega, by omega⟩, ⟨by omega, by omega⟩, fun y => absurd y (by omega), fun _ => ⟨fun y => absurd y (by omega), fun _ => ⟨fun y => absurd y (by omega), fun _ => H' _ ⟨rfl, rfl⟩⟩⟩⟩
    · rcases rv with ⟨v1, -⟩ | ⟨v1, -⟩
      · exact .inl v1
      · exact .inr v1
end Target
