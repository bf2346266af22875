/-! ===== LAYER 2: a page's pieces ===== -/
section Pieces
variable {wh wm : rhW}
/-- of the pixels before t that have the label i: the first, the box -/
def Pq (W t : Int) (lab : Int → Int) (i f l tp r b : Int) : Prop := ((0 ≤ f ∧ f < t) ∧ lab f = i) ∧ (∀ j, 0 ≤ j ∧ j < t → lab j = i → f ≤ j ∧ l ≤ j % W ∧ j % W < r ∧ j / W < b) ∧ (∃ j, (0 ≤ j ∧ j < t) ∧ lab j = i ∧ j % W = l) ∧ (∃ j, (0 ≤ j ∧ j < t) ∧ lab j = i ∧ j % W = r - 1) ∧ (∃ j, (0 ≤ j ∧ j < t) ∧ lab j = i ∧ j / W = b - 1) ∧ tp = f / W
variable {W t : Int} {lab : Int → Int} {i f l tp r b : Int}
theorem Pq.first (ht : 0 ≤ t) (hn : ∀ j, 0 ≤ j ∧ j < t → lab j ≠ i) (hi : lab t = i) : Pq W (t + 1) lab i t (t % W) (t / W) (t % W + 1) (t / W + 1) := by
  refine ⟨⟨⟨by omega, by omega⟩, hi⟩, fun j hj hl => ?_, ⟨t, ⟨by omega, by omega⟩, hi, rfl⟩, ⟨t, ⟨by omega, by omega⟩, hi, (by omega)⟩, ⟨t, ⟨by omega, by omega⟩, hi, (by omega)⟩, rfl⟩
  by_cases q : j = t
  · rw [q]; omega
  · exact absurd hl (hn j ⟨by omega, by omega⟩)
theorem Pq.next (h : Pq W t lab i f l tp r b) (hW : 0 < W) (hi : lab t = i) {l' r' : Int} (hl : l' = if t % W < l then t % W else l) (hr : r' = if r < t % W + 1 then t % W + 1 else r) : Pq W (t + 1) lab i f l' tp r' (t / W + 1) := by
  obtain ⟨⟨a1, a2⟩, b1, ⟨c0, c1, c2, c3⟩, ⟨d0, d1, d2, d3⟩, ⟨e0, e1, e2, e3⟩, g⟩ := h
  refine ⟨⟨⟨by omega, by omega⟩, a2⟩, fun j hj hjl => ?_, ?_, ?_, ⟨t, ⟨by omega, by omega⟩, hi, (by omega)⟩, g⟩
  · by_cases q : j = t
    · subst q
      refine ⟨(by omega), ?_, ?_, (by omega)⟩
      · rw [hl]; split <;> omega
      · rw [hr]; split <;> omega
    · have h1 := b1 j ⟨by omega, by omega⟩ hjl
      have h2 : j / W ≤ t / W := Int.ediv_le_ediv hW (by omega)
      refine ⟨h1.1, ?_, ?_, (by omega)⟩
      · rw [hl]; split <;> omega
      · rw [hr]; split <;> omega
  · rw [hl]; split
    · exact ⟨t, ⟨by omega, by omega⟩, hi, rfl⟩
    · exact ⟨c0, ⟨by omega, by omega⟩, c2, c3⟩
  · rw [hr]; split
    · exact ⟨t, ⟨by omega, by omega⟩, hi, (by omega)⟩
    · exact ⟨d0, ⟨by omega, by omega⟩, d2, d3⟩
theorem Pq.skip (h : Pq W t lab i f l tp r b) (hi : lab t ≠ i) : Pq W (t + 1) lab i f l tp r b := by
  obtain ⟨⟨a1, a2⟩, b1, ⟨c0, c1, c2, c3⟩, ⟨d0, d1, d2, d3⟩, ⟨e0, e1, e2, e3⟩, g⟩ := h
  refine ⟨⟨⟨by omega, by omega⟩, a2⟩, fun j hj hjl => ?_, ⟨c0, ⟨by omega, by omega⟩, c2, c3⟩, ⟨d0, ⟨by omega, by omega⟩, d2, d3⟩, ⟨e0, ⟨by omega, by omega⟩, e2, e3⟩, g⟩
  by_cases q : j = t
  · rw [q] at hjl; exact absurd hjl hi
  · exact b1 j ⟨by omega, by omega⟩ hjl
theorem Pq.one {f' l' tp' r' b' : Int} (h : Pq W t lab i f l tp r b) (h' : Pq W t lab i f' l' tp' r' b') : f = f' ∧ l = l' ∧ tp = tp' ∧ r = r' ∧ b = b' := by
  obtain ⟨⟨a1, a2⟩, b1, ⟨c0, c1, c2, c3⟩, ⟨d0, d1, d2, d3⟩, ⟨e0, e1, e2, e3⟩, g⟩ := h
  obtain ⟨⟨a1', a2'⟩, b1', ⟨c0', c1', c2', c3'⟩, ⟨d0', d1', d2', d3'⟩, ⟨e0', e1', e2', e3'⟩, g'⟩ := h'
  have p1 := b1 f' a1' a2'
  have p2 := b1' f a1 a2
  have hf : f = f' := (by omega)
  subst hf
  have q1 := b1 _ c1' c2'
  have q2 := b1' _ c1 c2
  have q3 := b1 _ d1' d2'
  have q4 := b1' _ d1 d2
  have q5 := b1 _ e1' e2'
  have q6 := b1' _ e1 e2
  exact ⟨rfl, (by omega), (by omega), (by omega), (by omega)⟩
theorem Pq.labs {lab' : Int → Int} (h : Pq W t lab i f l tp r b) (hl : ∀ j, 0 ≤ j ∧ j < t → lab j = lab' j) : Pq W t lab' i f l tp r b := by
  obtain ⟨⟨a1, a2⟩, b1, ⟨c0, c1, c2, c3⟩, ⟨d0, d1, d2, d3⟩, ⟨e0, e1, e2, e3⟩, g⟩ := h
  exact ⟨⟨a1, by rw [← hl _ a1]; exact a2⟩, fun j hj hjl => b1 j hj (by rw [hl j hj]; exact hjl), ⟨c0, c1, by rw [← hl _ c1]; exact c2, c3⟩, ⟨d0, d1, by rw [← hl _ d1]; exact d2, d3⟩, ⟨e0, e1, by rw [← hl _ e1]; exact e2, e3⟩, g⟩
/-- sums over the pixels of a label -/
def psum (g lab : Int → Int) (i : Int) : Nat → Int
  | 0 => 0
  | t + 1 => psum g lab i t + (if lab t = i then g t else 0)
theorem psum_b {g lab : Int → Int} {i m : Int} : ∀ t : Nat, (∀ j : Int, 0 ≤ j → j < t → 0 ≤ g j ∧ g j ≤ m) → 0 ≤ m → 0 ≤ psum g lab i t ∧ psum g lab i t ≤ m * t
  | 0, _, _ => by simp [psum]
  | t + 1, h, hm => by
    have ih := psum_b (g := g) (lab := lab) (i := i) t (fun j a b => h j a (by omega)) hm
    have h1 := h t (by omega) (by omega)
    have e : m * ((t + 1 : Nat) : Int) = m * (t : Int) + m := by rw [Int.natCast_add]; simp [Int.mul_add]
    simp only [psum]
    rw [e]
    split <;> omega
theorem psum_cg {g lab lab' : Int → Int} {i : Int} : ∀ t : Nat, (∀ j : Int, 0 ≤ j → j < t → (lab j = i ↔ lab' j = i)) → psum g lab i t = psum g lab' i t
  | 0, _ => rfl
  | t + 1, h => by
    have ih := psum_cg (g := g) t (fun j a b => h j a (by omega))
    have h1 := h t (by omega) (by omega)
    simp only [psum, ih]
    by_cases h2 : lab t = i
    · rw [if_pos h2, if_pos (h1.mp h2)]
    · rw [if_neg h2, if_neg (fun z => h2 (h1.mpr z))]
def min300 (c : Int) : Int := if c < 300 then c else 300
/-- Page.widen -/
theorem c_widen (hh : rh_hs wh) {x i k : Int} (hx : rh_bl wh 0 x 0) (M : rhM) (hk : 0 ≤ k) (hk2 : k < 6144) (hW : 0 < M x 1) (hi : 0 ≤ i ∧ i < 300) :
    rC1 wh YX29_widen 1 [(2, x), (0, i), (0, k)] M (fun r M' => r = 0 ∧ frx (fun a j => (a = x + 3 ∨ a = x + 5 ∨ a = x + 6 ∨ a = x + 7 ∨ a = x + 8) ∧ j = i) M M' ∧ M' (x + 8) i = k / M x 1 + 1 ∧
      (M (x + 3) i = -1 → M' (x + 3) i = k ∧ M' (x + 5) i = k % M x 1 ∧ M' (x + 6) i = k / M x 1 ∧ M' (x + 7) i = k % M x 1 + 1) ∧
      (M (x + 3) i ≠ -1 → M' (x + 3) i = M (x + 3) i ∧ M' (x + 6) i = M (x + 6) i ∧ M' (x + 5) i = (if k % M x 1 < M (x + 5) i then k % M x 1 else M (x + 5) i) ∧ M' (x + 7) i = (if M (x + 7) i < k % M x 1 + 1 then k % M x 1 + 1 else M (x + 7) i))) := by
  have m1 := Int.emod_nonneg k (show M x 1 ≠ 0 by omega)
  have m2 := Int.emod_lt_of_pos k hW
  have m3 := Int.ediv_nonneg hk (show 0 ≤ M x 1 by omega)
  have m4 := Int.ediv_le_self (M x 1) hk
  have m5 : k % M x 1 ≤ k := by
    have h1 := dm k (M x 1)
    have h2 := mul_nn (a := M x 1) (b := k / M x 1) (by omega) m3
    omega
  refine rC1.of (by decide) (LE0 rfl) ?_
  refine rh1.of (rX29_widen_0 hh _ _ _ _ hx ?_)
  refine ⟨⟨hk, hW⟩, fun px epx => ⟨⟨hk, hW⟩, fun py epy => ⟨hi, fun c => ⟨hi, hi, hi, hi, ⟨by omega, by omega⟩, fun M2 e2 => ?_⟩, fun c => fun M2 e2 => ?_⟩⟩⟩
  · have a5 : M2 (x + 5) i = px := by rw [e2]; simp [rh_sets]
    have a7 : M2 (x + 7) i = px + 1 := by rw [e2]; simp [rh_sets]
    rw [a5]
    refine ⟨hi, fun l el => ⟨hi, hi, ⟨by omega, by omega⟩, ?_⟩⟩
    have el2 : l = px := by rw [el, rh_if]; split <;> rfl
    subst el2
    rw [show rh_set M2 (x + 5) i l (x + 7) i = l + 1 by rw [rh_set_a (by omega), a7]]
    intro r er
    have er2 : r = l + 1 := by rw [er, rh_if]; split <;> rfl
    subst er2
    refine ⟨hi, hi, ⟨by omega, by omega⟩, rfl, ?_, ?_, fun _ => ⟨?_, ?_, ?_, ?_⟩, fun z => absurd c z⟩
    · rw [e2]
      exact ((((((frx.rf.st ⟨.inl rfl, rfl⟩).st ⟨.inr (.inl rfl), rfl⟩).st ⟨.inr (.inr (.inl rfl)), rfl⟩).st ⟨.inr (.inr (.inr (.inl rfl))), rfl⟩).st ⟨.inr (.inl rfl), rfl⟩).st ⟨.inr (.inr (.inr (.inl rfl))), rfl⟩).st ⟨.inr (.inr (.inr (.inr rfl))), rfl⟩
    · rw [rh_set_s, ← epy]
    · rw [e2]; simp [rh_sets]
    · rw [← epx]; simp [rh_sets]
    · rw [e2, ← epy]; simp [rh_sets]
    · rw [← epx]; simp [rh_sets]
  · subst e2
    refine ⟨hi, fun l el => ⟨hi, hi, ⟨by omega, by omega⟩, ?_⟩⟩
    rw [show rh_set M2 (x + 5) i l (x + 7) i = M2 (x + 7) i by rw [rh_set_a (by omega)]]
    intro r er
    refine ⟨hi, hi, ⟨by omega, by omega⟩, rfl, ?_, ?_, fun z => absurd z c, fun _ => ⟨?_, ?_, ?_, ?_⟩⟩
    · exact ((frx.rf.st ⟨.inr (.inl rfl), rfl⟩).st ⟨.inr (.inr (.inr (.inl rfl))), rfl⟩).st ⟨.inr (.inr (.inr (.inr rfl))), rfl⟩
    · rw [rh_set_s, ← epy]
    · simp [rh_sets]
    · simp [rh_sets]
    · rw [rh_set_a (by omega), rh_set_a (by omega), rh_set_s, el, ← epx]; exact rh_ifd
    · rw [rh_set_a (by omega), rh_set_s, er, ← epx]; exact rh_ifd
end Pieces
