/-! ===== LAYER 2: the boxes of blocks (pure) ===== -/
section Blocks
/-- least and greatest of g over the places with label i, beginning with a -/
def lst (g lab : Int → Int) (i a : Int) : Nat → Int
  | 0 => a
  | k + 1 => if lab k = i ∧ g k < lst g lab i a k then g k else lst g lab i a k
def gst (g lab : Int → Int) (i a : Int) : Nat → Int
  | 0 => a
  | k + 1 => if lab k = i ∧ gst g lab i a k < g k then g k else gst g lab i a k
variable {g lab : Int → Int} {i a : Int}
theorem lst_s : ∀ k : Nat, lst g lab i a k ≤ a ∧ (∀ j : Int, 0 ≤ j → j < k → lab j = i → lst g lab i a k ≤ g j) ∧ (lst g lab i a k = a ∨ ∃ j : Int, (0 ≤ j ∧ j < k) ∧ lab j = i ∧ lst g lab i a k = g j)
  | 0 => ⟨Int.le_refl _, fun j a b => by omega, .inl rfl⟩
  | k + 1 => by
    obtain ⟨h1, h2, h3⟩ := lst_s k
    simp only [lst]
    by_cases c : lab k = i ∧ g k < lst g lab i a k
    · rw [if_pos c]
      refine ⟨(by omega), fun j j0 j1 hj => ?_, .inr ⟨k, ⟨by omega, by omega⟩, c.1, rfl⟩⟩
      by_cases e : j = k
      · rw [e]; exact Int.le_refl _
      · have := h2 j j0 (by omega) hj
        omega
    · rw [if_neg c]
      refine ⟨h1, fun j j0 j1 hj => ?_, ?_⟩
      · by_cases e : j = k
        · rw [e] at hj ⊢
          exact Int.not_lt.mp (fun z => c ⟨hj, z⟩)
        · exact h2 j j0 (by omega) hj
      · rcases h3 with h3 | ⟨j, j0, j1⟩
        · exact .inl h3
        · exact .inr ⟨j, ⟨by omega, by omega⟩, j1⟩
theorem lst_one {b : Int} {k : Nat} {j : Int} (j0 : 0 ≤ j ∧ j < k) (hj : lab j = i) (ha : ∀ j : Int, 0 ≤ j → j < k → lab j = i → g j < a ∧ g j < b) : lst g lab i a k = lst g lab i b k := by
  obtain ⟨h1, h2, h3⟩ := lst_s (g := g) (lab := lab) (i := i) (a := a) k
  obtain ⟨e1, e2, e3⟩ := lst_s (g := g) (lab := lab) (i := i) (a := b) k
  have p1 := h2 j j0.1 j0.2 hj
  have p2 := e2 j j0.1 j0.2 hj
  have p3 := ha j j0.1 j0.2 hj
  rcases h3 with h3 | ⟨u, u0, u1, u2⟩
  · omega
  · rcases e3 with e3 | ⟨v, v0, v1, v2⟩
    · omega
    · have q1 := h2 v v0.1 v0.2 v1
      have q2 := e2 u u0.1 u0.2 u1
      omega
theorem mn_lst {a b : Int} (i : Int) : (if a < b then a else b) = if i = i ∧ b < a then b else a := by
  by_cases h : b < a
  · rw [if_neg (show ¬ (a < b) by omega), if_pos (show i = i ∧ b < a from ⟨rfl, h⟩)]
  · rw [if_neg (show ¬ (i = i ∧ b < a) from fun z => h z.2)]; split <;> omega
theorem mx_gst {a b : Int} (i : Int) : (if b < a then a else b) = if i = i ∧ a < b then b else a := by
  by_cases h : a < b
  · rw [if_neg (show ¬ (b < a) by omega), if_pos (show i = i ∧ a < b from ⟨rfl, h⟩)]
  · rw [if_neg (show ¬ (i = i ∧ a < b) from fun z => h z.2)]; split <;> omega
theorem nct_all : ∀ t : Nat, nct (fun _ => 0) 0 t = t
  | 0 => rfl
  | t + 1 => by simp [nct, nct_all t]
theorem gst_s : ∀ k : Nat, a ≤ gst g lab i a k ∧ (∀ j : Int, 0 ≤ j → j < k → lab j = i → g j ≤ gst g lab i a k) ∧ (gst g lab i a k = a ∨ ∃ j : Int, (0 ≤ j ∧ j < k) ∧ lab j = i ∧ gst g lab i a k = g j)
  | 0 => ⟨Int.le_refl _, fun j a b => by omega, .inl rfl⟩
  | k + 1 => by
    obtain ⟨h1, h2, h3⟩ := gst_s k
    simp only [gst]
    by_cases c : lab k = i ∧ gst g lab i a k < g k
    · rw [if_pos c]
      refine ⟨(by omega), fun j j0 j1 hj => ?_, .inr ⟨k, ⟨by omega, by omega⟩, c.1, rfl⟩⟩
      by_cases e : j = k
      · rw [e]; exact Int.le_refl _
      · have := h2 j j0 (by omega) hj
        omega
    · rw [if_neg c]
      refine ⟨h1, fun j j0 j1 hj => ?_, ?_⟩
      · by_cases e : j = k
        · rw [e] at hj ⊢
          exact Int.not_lt.mp (fun z => c ⟨hj, z⟩)
        · exact h2 j j0 (by omega) hj
      · rcases h3 with h3 | ⟨j, j0, j1⟩
        · exact .inl h3
        · exact .inr ⟨j, ⟨by omega, by omega⟩, j1⟩
end Blocks
