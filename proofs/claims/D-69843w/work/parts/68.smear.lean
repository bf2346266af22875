/-! ===== LAYER 2: smear (the layout's first stage) ===== -/
section Smear
variable {wh wm : rhW}
/-- gaps along a line are filled: the last black place, the line -/
def flp (gap : Int) (f0 : Int → Int) : Nat → Int × (Int → Int)
  | 0 => (-1, f0)
  | t + 1 => if (flp gap f0 t).2 t ≠ 0 then ((t : Int), fun j => if ((flp gap f0 t).1 ≠ -1 ∧ (t : Int) - (flp gap f0 t).1 - 1 < gap) ∧ ((flp gap f0 t).1 < j ∧ j < t) then 1 else (flp gap f0 t).2 j) else flp gap f0 t
theorem flp_b (gap : Int) (f0 : Int → Int) : ∀ t : Nat, -1 ≤ (flp gap f0 t).1 ∧ (flp gap f0 t).1 < (if t = 0 then 0 else (t : Int)) ∧ ∀ j : Int, (t : Int) ≤ j → (flp gap f0 t).2 j = f0 j
  | 0 => ⟨(show (-1 : Int) ≤ -1 by decide), (show (-1 : Int) < 0 by decide), fun _ _ => rfl⟩
  | t + 1 => by
    obtain ⟨a1, a2, a3⟩ := flp_b gap f0 t
    simp only [flp]
    split
    · refine ⟨(by omega), by rw [if_neg (by omega)]; show (t : Int) < _; omega, fun j hj => ?_⟩
      show (if _ then 1 else (flp gap f0 t).2 j) = f0 j
      rw [if_neg (by omega)]
      exact a3 j (by omega)
    · refine ⟨a1, ?_, fun j hj => a3 j (by omega)⟩
      rw [if_neg (by omega)]
      by_cases q : t = 0
      · rw [if_pos q] at a2; omega
      · rw [if_neg q] at a2; omega
theorem flp_01 {gap : Int} {f0 : Int → Int} (h : ∀ j, f0 j = 0 ∨ f0 j = 1) : ∀ (t : Nat) (j : Int), (flp gap f0 t).2 j = 0 ∨ (flp gap f0 t).2 j = 1
  | 0, j => h j
  | t + 1, j => by
    have := flp_01 (gap := gap) h t j
    simp only [flp]
    split
    · show (if _ then (1 : Int) else (flp gap f0 t).2 j) = 0 ∨ (if _ then (1 : Int) else (flp gap f0 t).2 j) = 1
      split
      · exact .inr rfl
      · exact this
    · exact this
theorem c_fillAlong (hh : rh_hs wh) {x a b n gap : Int} (hx : rh_bl wh 5 x 0) (M : rhM) (hb : 1 ≤ b) (hn : 0 ≤ n ∧ n ≤ 128) (hg : 1 ≤ gap ∧ gap ≤ 60) (hin : ∀ j, 0 ≤ j → j < n → 0 ≤ a + b * j ∧ a + b * j < 6144) {f0 : Int → Int} (h0 : ∀ j, 0 ≤ j → j < n → M (x + 1) (a + b * j) = if f0 j ≠ 0 then 0 else -1) :
    rC1 wh YX30_fillAlong 1 [(2, x), (0, a), (0, b), (0, n), (0, gap)] M (fun r M' => r = 0 ∧ frx (fun c j => c = x + 1 ∧ ∃ u, (0 ≤ u ∧ u < n) ∧ j = a + b * u) M M' ∧ ∀ j, 0 ≤ j → j < n → M' (x + 1) (a + b * j) = if (flp gap f0 n.toNat).2 j ≠ 0 then 0 else -1) := by
  have hne : ∀ u v : Int, u ≠ v → a + b * u ≠ a + b * v := fun u v h e => h (Int.eq_of_mul_eq_mul_left (show b ≠ 0 by omega) (show b * u = b * v by omega))
  replace hin := Hid.mk hin
  replace h0 := Hid.mk h0
  refine rC1.of (by decide) (LE0 rfl) ?_
  refine rh1.of (rX30_fillAlong_0 hh _ _ _ _ _ _ hx ?_)
  have key : ∀ (vq : Nat) (k : Nat) (M' : rhM), (n - k).toNat = vq → ((k : Int) ≤ n) → (frx (fun c j => c = x + 1 ∧ ∃ u, (0 ≤ u ∧ u < n) ∧ j = a + b * u) M M') → (∀ j, 0 ≤ j → j < n → M' (x + 1) (a + b * j) = if (flp gap f0 k).2 j ≠ 0 then 0 else -1) → rh1 wh YX30_fillAlong 1 6 [(0, 2, x), (1, 0, a), (2, 0, b), (3, 0, n), (4, 0, gap), (5, 0, (flp gap f0 k).1), (6, 0, (k : Int))] [] M' (fun r M' => r = 0 ∧ frx (fun c j => c = x + 1 ∧ ∃ u, (0 ≤ u ∧ u < n) ∧ j = a + b * u) M M' ∧ ∀ j, 0 ≤ j → j < n → M' (x + 1) (a + b * j) = if (flp gap f0 n.toNat).2 j ≠ 0 then 0 else -1) := by
    intro vq
    induction vq using Nat.strongRecOn with
    | ind vq ih =>
      intro k M' hvq k1 f hj
      replace f := Hid.mk f
      replace hj := Hid.mk hj
      obtain ⟨b1, b2, -⟩ := flp_b gap f0 k
      have b3 : (flp gap f0 k).1 < (k : Int) ∨ ((flp gap f0 k).1 = -1 ∧ (k : Int) = 0) := by
        by_cases q : k = 0
        · rw [if_pos q] at b2; omega
        · rw [if_neg q] at b2; exact .inl b2
      have b4 : -1 ≤ (flp gap f0 k).1 ∧ (flp gap f0 k).1 ≤ 128 := ⟨by omega, by omega⟩
      replace b3 : (flp gap f0 k).1 + 1 ≤ (k : Int) := (by omega)
      clear b2
      refine rh1.of (rX30_fillAlong_6 hh _ _ _ _ _ _ _ _ hx ?_)
      refine ⟨fun c => ?_, fun c => ⟨rfl, f.out, by rw [show n.toNat = k by omega]; exact hj.out⟩⟩
      have hk := hin.out (k : Int) (by omega) c
      have hv := hj.out (k : Int) (by omega) c
      refine ⟨⟨by omega, by omega⟩, hk, fun z => ⟨⟨by omega, by omega⟩, ?_⟩, fun z => ⟨⟨by omega, by omega⟩, ?_⟩⟩
      · have hz : (flp gap f0 k).2 (k : Int) ≠ 0 := fun y => by
          rw [hv, if_neg (fun w => w y)] at z; exact absurd z (by decide)
        generalize hlast : (flp gap f0 k).1 = last at *
        have hnx : flp gap f0 (k + 1) = ((k : Int), fun j => if (last ≠ -1 ∧ (k : Int) - last - 1 < gap) ∧ (last < j ∧ j < k) then 1 else (flp gap f0 k).2 j) := by
          simp only [flp]
          rw [if_pos hz, hlast]
        have key2 : ∀ (vq : Nat) (m : Int) (M2 : rhM), ((k : Int) - m).toNat = vq → (last + 1 ≤ m) → (m ≤ (k : Int)) → (frx (fun c j => c = x + 1 ∧ ∃ u, (0 ≤ u ∧ u < n) ∧ j = a + b * u) M M2) → (∀ j, 0 ≤ j → j < n → M2 (x + 1) (a + b * j) = if ((last ≠ -1 ∧ (k : Int) - last - 1 < gap) ∧ (last < j ∧ j < m)) ∨ (flp gap f0 k).2 j ≠ 0 then 0 else -1) → rh1 wh YX30_fillAlong 1 31 [(0, 2, x), (1, 0, a), (2, 0, b), (3, 0, n), (4, 0, gap), (5, 0, last), (6, 0, (k : Int)), (7, 0, m)] [] M2 (fun r M' => r = 0 ∧ frx (fun c j => c = x + 1 ∧ ∃ u, (0 ≤ u ∧ u < n) ∧ j = a + b * u) M M' ∧ ∀ j, 0 ≤ j → j < n → M' (x + 1) (a + b * j) = if (flp gap f0 n.toNat).2 j ≠ 0 then 0 else -1) := by
          intro vq
          induction vq using Nat.strongRecOn with
          | ind vq ih2 =>
            intro m M2 hvq m0 m1 f2 hj2
            replace f2 := Hid.mk f2
            replace hj2 := Hid.mk hj2
            refine rh1.of (rX30_fillAlong_31 hh _ _ _ _ _ _ _ _ _ hx ?_)
            refine ⟨fun _ => ⟨by omega, by omega⟩, fun y => ?_, fun y => ⟨⟨by omega, by omega⟩, ?_⟩⟩
            · have hm := hin.out m (by omega) (by omega)
              refine ⟨hm, by decide, ⟨by omega, by omega⟩, ih2 _ (by omega) (m + 1) _ rfl (by omega) (by omega) (f2.out.st ⟨rfl, m, ⟨by omega, by omega⟩, rfl⟩) (fun j j0 j1 => ?_)⟩
              by_cases q : j = m
              · rw [q, rh_set_s, if_pos (.inl ⟨⟨y.1, y.2.1⟩, ⟨by omega, by omega⟩⟩)]
              · rw [rh_set_j (hne j m q), hj2.out j j0 j1]
                refine ite_congr (propext (or_congr (and_congr Iff.rfl ?_) Iff.rfl)) (fun _ => rfl) (fun _ => rfl)
                omega
            · have := ih _ (by omega) (k + 1) M2 rfl (by omega) f2.out (fun j j0 j1 => ?_)
              · rw [hnx] at this
                exact this
              · rw [hj2.out j j0 j1, hnx]
                show _ = if (if (last ≠ -1 ∧ (k : Int) - last - 1 < gap) ∧ (last < j ∧ j < k) then (1 : Int) else (flp gap f0 k).2 j) ≠ 0 then 0 else -1
                refine ite_congr (propext ?_) (fun _ => rfl) (fun _ => rfl)
                by_cases q : (last ≠ -1 ∧ (k : Int) - last - 1 < gap) ∧ (last < j ∧ j < k)
                · rw [if_pos q]
                  refine ⟨fun _ => by decide, fun _ => .inl ⟨q.1, q.2.1, ?_⟩⟩
                  by_cases w : m < (k : Int)
                  · exact absurd ⟨q.1.1, q.1.2, w⟩ y
                  · omega
                · rw [if_neg q]
                  refine ⟨fun v => v.resolve_left (fun v => q ⟨v.1, v.2.1, by omega⟩), fun v => .inr v⟩
        refine key2 _ (last + 1) M' rfl (by omega) (by omega) f.out (fun j j0 j1 => ?_)
        rw [hj.out j j0 j1]
        refine ite_congr (propext ⟨fun v => .inr v, fun v => v.resolve_left (fun v => by omega)⟩) (fun _ => rfl) (fun _ => rfl)
      · have hz : ¬ (flp gap f0 k).2 (k : Int) ≠ 0 := fun y => by
          rw [hv, if_pos y] at z; exact z (by decide)
        have hnx : flp gap f0 (k + 1) = flp gap f0 k := by
          simp only [flp]
          rw [if_neg hz]
        have := ih _ (by omega) (k + 1) M' rfl (by omega) f.out (by rw [hnx]; exact hj.out)
        rw [hnx] at this
        exact this
  exact key _ 0 M rfl (by omega) frx.rf h0.out
end Smear
