/-! ===== LAYER 2: the columns of a word (pure) ===== -/
section Runs
/-- black ones of a column -/
def ccn (ink : Int → Int) (W u : Int) : Nat → Int
  | 0 => 0
  | v + 1 => ccn ink W u v + (if ink (W * v + u) ≠ 0 then 1 else 0)
theorem ccn_b (ink : Int → Int) (W u : Int) : ∀ v : Nat, 0 ≤ ccn ink W u v ∧ ccn ink W u v ≤ v
  | 0 => ⟨Int.le_refl _, Int.le_refl _⟩
  | v + 1 => by
    have := ccn_b ink W u v
    simp only [ccn]
    split <;> omega
theorem ccn_0 {ink : Int → Int} {W u : Int} : ∀ v : Nat, (∀ j : Int, 0 ≤ j → j < v → ink (W * j + u) = 0) → ccn ink W u v = 0
  | 0 => fun _ => rfl
  | v + 1 => fun h => by
    simp only [ccn]
    rw [ccn_0 v (fun j a b => h j a (by omega)), if_neg (fun z => z (h v (by omega) (by omega)))]; rfl
theorem ccn_ge {ink : Int → Int} {W u : Int} {a : Nat} : ∀ d : Nat, (∀ j : Int, a ≤ j → j < (a + d : Nat) → ink (W * j + u) = 0) → ccn ink W u (a + d) = ccn ink W u a
  | 0 => fun _ => rfl
  | d + 1 => fun h => by
    rw [← Nat.add_assoc]
    simp only [ccn]
    rw [ccn_ge d (fun j x y => h j x (by omega)), if_neg (fun z => z (h ((a + d : Nat) : Int) (by omega) (by omega))), Int.add_zero]
theorem ccn_pos {ink : Int → Int} {W u : Int} {j : Int} (j0 : 0 ≤ j) (hj : ink (W * j + u) ≠ 0) : ∀ v : Nat, j < v → 0 < ccn ink W u v
  | 0 => fun h => by omega
  | v + 1 => fun h => by
    have b := ccn_b ink W u v
    simp only [ccn]
    by_cases q : j = v
    · rw [← q, if_pos hj]; omega
    · have := ccn_pos j0 hj v (by omega)
      split <;> omega
/-- runs of black columns: how many begin before k; where the r-th begins, where it ends -/
def rnb (c : Int → Int) (k : Int) : Prop := 0 < c k ∧ (k = 0 ∨ c (k - 1) = 0)
noncomputable def rnc (c : Int → Int) : Nat → Int
  | 0 => 0
  | k + 1 => rnc c k + rh_if (rnb c k) 1 0
noncomputable def rnf (c : Int → Int) (r : Int) : Nat → Int
  | 0 => 0
  | k + 1 => rh_if (rnb c k ∧ rnc c k = r) (k : Int) (rnf c r k)
noncomputable def rne (c : Int → Int) (r : Int) : Nat → Int
  | 0 => 0
  | k + 1 => rh_if (0 < c k ∧ rnc c (k + 1) = r + 1) ((k : Int) + 1) (rne c r k)
variable {c : Int → Int}
/-- was the column before k black -/
noncomputable def rnw (c : Int → Int) : Nat → Int
  | 0 => 0
  | k + 1 => rh_if (0 < c k) 1 0
theorem rnw_b (k : Nat) : 0 ≤ rnw c k ∧ rnw c k ≤ 1 := by
  cases k with
  | zero => exact ⟨Int.le_refl _, (show (0 : Int) ≤ 1 by decide)⟩
  | succ k => exact if1_b
theorem rnb_i (hc : ∀ i, 0 ≤ c i) (k : Nat) : rnb c k ↔ (0 < c k ∧ rnw c k = 0) := by
  cases k with
  | zero => exact ⟨fun h => ⟨h.1, rfl⟩, fun h => ⟨h.1, .inl rfl⟩⟩
  | succ k =>
    unfold rnb rnw
    rw [if1_0]
    have := hc k
    rw [show ((k + 1 : Nat) : Int) - 1 = k by omega]
    exact ⟨fun h => ⟨h.1, by omega⟩, fun h => ⟨h.1, by omega⟩⟩
theorem rnc_b (hc : ∀ i, 0 ≤ c i) : ∀ k : Nat, rnw c k ≤ rnc c k ∧ 2 * rnc c k ≤ k + rnw c k
  | 0 => by simp [rnc, rnw]
  | k + 1 => by
    have h := rnc_b hc k
    have w := rnw_b (c := c) k
    simp only [rnc]
    show rh_if (0 < c k) 1 0 ≤ _ ∧ _ ≤ ((k + 1 : Nat) : Int) + rh_if (0 < c k) 1 0
    by_cases q : 0 < c k
    · rw [rh_if_t q]
      by_cases r : rnb c k
      · rw [rh_if_t r]
        have := (rnb_i hc k).mp r
        omega
      · rw [rh_if_f r]
        have : rnw c k ≠ 0 := fun z => r ((rnb_i hc k).mpr ⟨q, z⟩)
        omega
    · rw [rh_if_f q, rh_if_f (fun z => q z.1)]
      omega
theorem rn_inv (hc : ∀ i, 0 ≤ c i) : ∀ k : Nat, (∀ r, 0 ≤ r → r < rnc c k → (0 ≤ rnf c r k ∧ rnf c r k < rne c r k ∧ rne c r k ≤ k)) ∧ (∀ r, 0 ≤ r → r + 1 < rnc c k → rne c r k < rnf c (r + 1) k) ∧ (rnw c k = 1 → rne c (rnc c k - 1) k = k) ∧ (rnw c k = 0 → ∀ r, 0 ≤ r → r < rnc c k → rne c r k < k)
  | 0 => ⟨fun r a b => by simp only [rnc] at b; omega, fun r a b => by simp only [rnc] at b; omega, fun h => by simp only [rnw] at h; omega, fun _ r a b => by simp only [rnc] at b; omega⟩
  | k + 1 => by
    obtain ⟨h1, h2, h3, h4⟩ := rn_inv hc k
    have hb := rnc_b hc k
    have w := rnw_b (c := c) k
    have ew : rnw c (k + 1) = rh_if (0 < c k) 1 0 := rfl
    have ec : rnc c (k + 1) = rnc c k + rh_if (rnb c k) 1 0 := rfl
    by_cases q : 0 < c k
    · rw [rh_if_t q] at ew
      by_cases r : rnb c k
      · rw [rh_if_t r] at ec
        have wz := ((rnb_i hc k).mp r).2
        have ef : ∀ s, s ≠ rnc c k → rnf c s (k + 1) = rnf c s k := fun s hs => by simp only [rnf]; rw [rh_if_f (fun z => hs z.2.symm)]
        have ef' : rnf c (rnc c k) (k + 1) = k := by simp only [rnf]; rw [rh_if_t ⟨r, trivial⟩]
        have ee : ∀ s, s ≠ rnc c k → rne c s (k + 1) = rne c s k := fun s hs => by simp only [rne]; rw [rh_if_f (fun z => hs (by omega))]
        have ee' : rne c (rnc c k) (k + 1) = k + 1 := by simp only [rne]; rw [rh_if_t ⟨q, ec⟩]
        refine ⟨fun s s0 s1 => ?_, fun s s0 s1 => ?_, fun _ => ?_, fun z => by omega⟩
        · by_cases e : s = rnc c k
          · rw [e, ef', ee']; omega
          · rw [ef s e, ee s e]
            have := h1 s s0 (by omega)
            omega
        · rw [ee s (by omega)]
          by_cases e : s + 1 = rnc c k
          · rw [e, ef']
            exact h4 wz s s0 (by omega)
          · rw [ef _ e]
            exact h2 s s0 (by omega)
        · rw [ec, show rnc c k + 1 - 1 = rnc c k by omega, ee']; omega
      · rw [rh_if_f r, Int.add_zero] at ec
        have w1 : rnw c k = 1 := by
          have : rnw c k ≠ 0 := fun z => r ((rnb_i hc k).mpr ⟨q, z⟩)
          omega
        have ef : ∀ s, rnf c s (k + 1) = rnf c s k := fun s => by simp only [rnf]; rw [rh_if_f (fun z => r z.1)]
        have ee : ∀ s, s ≠ rnc c k - 1 → rne c s (k + 1) = rne c s k := fun s hs => by simp only [rne]; rw [rh_if_f (fun z => hs (by omega))]
        have ee' : rne c (rnc c k - 1) (k + 1) = k + 1 := by simp only [rne]; rw [rh_if_t ⟨q, (by omega)⟩]
        refine ⟨fun s s0 s1 => ?_, fun s s0 s1 => ?_, fun _ => ?_, fun z => by omega⟩
        · rw [ef]
          have h1s := h1 s s0 (by omega)
          by_cases e : s = rnc c k - 1
          · rw [e, ee']
            rw [e] at h1s
            omega
          · rw [ee s e]
            omega
        · rw [ee s (by omega), ef]
          exact h2 s s0 (by omega)
        · rw [ec, ee']; omega
    · rw [rh_if_f q] at ew
      rw [rh_if_f (fun z => q z.1), Int.add_zero] at ec
      have ef : ∀ s, rnf c s (k + 1) = rnf c s k := fun s => by simp only [rnf]; rw [rh_if_f (fun z => q z.1.1)]
      have ee : ∀ s, rne c s (k + 1) = rne c s k := fun s => by simp only [rne]; rw [rh_if_f (fun z => q z.1)]
      refine ⟨fun s s0 s1 => ?_, fun s s0 s1 => ?_, fun z => by omega, fun _ s s0 s1 => ?_⟩
      · rw [ef, ee]
        have := h1 s s0 (by omega)
        omega
      · rw [ef, ee]; exact h2 s s0 (by omega)
      · rw [ee]
        have := h1 s s0 (by omega)
        omega
/-- nothing more after the last black column -/
theorem rn_ge {a : Nat} : ∀ d : Nat, (∀ j : Int, a ≤ j → j < (a + d : Nat) → c j = 0) → rnc c (a + d) = rnc c a ∧ ∀ r, rnf c r (a + d) = rnf c r a ∧ rne c r (a + d) = rne c r a
  | 0 => fun _ => ⟨rfl, fun _ => ⟨rfl, rfl⟩⟩
  | d + 1 => fun h => by
    obtain ⟨h1, h2⟩ := rn_ge d (fun j x y => h j x (by omega))
    have hz : ¬ (0 < c ((a + d : Nat) : Int)) := by rw [h _ (by omega) (by omega)]; omega
    rw [← Nat.add_assoc]
    refine ⟨?_, fun r => ⟨?_, ?_⟩⟩
    · simp only [rnc]; rw [rh_if_f (fun z => hz z.1), h1, Int.add_zero]
    · simp only [rnf]; rw [rh_if_f (fun z => hz z.1.1)]; exact (h2 r).1
    · simp only [rne]; rw [rh_if_f (fun z => hz z.1)]; exact (h2 r).2
theorem rnc_0 {a : Nat} (h : ∀ j : Int, 0 ≤ j → j < a → c j = 0) : rnc c a = 0 := by
  have := (rn_ge (c := c) (a := 0) a (fun j x y => h j (by omega) (by omega))).1
  rw [Nat.zero_add] at this
  rw [this]; rfl
theorem rnc_mono : ∀ d a : Nat, rnc c a ≤ rnc c (a + d)
  | 0 => fun a => Int.le_refl _
  | d + 1 => fun a => by
    have := rnc_mono d a
    rw [← Nat.add_assoc]
    simp only [rnc]
    have := if1_b (P := rnb c ((a + d : Nat) : Int))
    omega
/-- some black: some run -/
theorem rnc_pos (hc : ∀ i, 0 ≤ c i) {j : Nat} (hj : 0 < c j) {k : Nat} (hk : j < k) : 0 < rnc c k := by
  have h1 := (rnc_b hc (j + 1)).1
  have h2 : rnw c (j + 1) = 1 := by show rh_if (0 < c j) 1 0 = 1; rw [rh_if_t hj]
  have h3 := rnc_mono (c := c) (k - (j + 1)) (j + 1)
  rw [show j + 1 + (k - (j + 1)) = k by omega] at h3
  omega
end Runs
