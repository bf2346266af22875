/-! ===== LAYER 2: numbers in words ===== -/
section Number
variable {wh wm : rhW}
def Dg (c : Int) : Prop := 48 ≤ c ∧ c ≤ 57
/-- digits from a to b, no more -/
def Dr (t : Int → Int) (m a b : Int) : Prop := (a ≤ b ∧ b ≤ m) ∧ (∀ i, a ≤ i → i < b → Dg (t i)) ∧ (b = m ∨ ¬ Dg (t b))
theorem Dr.ex {t : Int → Int} {m : Int} : ∀ (u : Nat) (a : Int), a + u = m → ∃ b, Dr t m a b
  | 0, a, h => ⟨a, ⟨Int.le_refl _, by omega⟩, fun i i0 i1 => by omega, .inl (by omega)⟩
  | u + 1, a, h => by
    by_cases d : Dg (t a)
    · obtain ⟨b, ⟨b1, b2⟩, b3, b4⟩ := Dr.ex (t := t) (m := m) u (a + 1) (by omega)
      refine ⟨b, ⟨by omega, b2⟩, fun i i0 i1 => ?_, b4⟩
      by_cases y : i = a
      · rw [y]; exact d
      · exact b3 i (by omega) i1
    · exact ⟨a, ⟨Int.le_refl _, by omega⟩, fun i i0 i1 => by omega, .inr d⟩
theorem Dr.one {t : Int → Int} {m a b c : Int} (h : Dr t m a b) (h' : Dr t m a c) : b = c := by
  obtain ⟨⟨a1, a2⟩, a3, a4⟩ := h
  obtain ⟨⟨c1, c2⟩, c3, c4⟩ := h'
  by_cases y : b < c
  · rcases a4 with a4 | a4
    · omega
    · exact absurd (c3 b a1 y) a4
  · by_cases y2 : c < b
    · rcases c4 with c4 | c4
      · omega
      · exact absurd (a3 c c1 y2) c4
    · omega
def vl (t : Int → Int) (a : Int) : Nat → Int
  | 0 => 0
  | k + 1 => 10 * vl t a k + t (a + k) - 48
theorem vl_b {t : Int → Int} {a : Int} : ∀ k : Nat, (∀ i, a ≤ i → i < a + k → Dg (t i)) → 0 ≤ vl t a k ∧ vl t a k < 10 ^ k
  | 0, _ => by show (0 : Int) ≤ 0 ∧ (0 : Int) < 1; decide
  | k + 1, h => by
    have i := vl_b k (fun i i0 i1 => h i i0 (by omega))
    have d := h (a + k) (by omega) (by omega)
    unfold Dg at d
    show 0 ≤ 10 * vl t a k + t (a + k) - 48 ∧ 10 * vl t a k + t (a + k) - 48 < 10 ^ (k + 1)
    rw [Int.pow_succ]
    omega
theorem vl_a {t : Int → Int} {a : Int} (k : Nat) : ∀ e : Nat, vl t a (k + e) = 10 ^ e * vl t a k + vl t (a + k) e
  | 0 => by show vl t a k = 1 * vl t a k + 0; omega
  | e + 1 => by
    show 10 * vl t a (k + e) + t (a + ((k + e : Nat) : Int)) - 48 = 10 ^ (e + 1) * vl t a k + (10 * vl t (a + k) e + t (a + k + e) - 48)
    rw [vl_a k e, Int.pow_succ, show a + ((k + e : Nat) : Int) = a + k + e by omega, Int.mul_comm (10 ^ e) 10, Int.mul_assoc]
    omega
/-- what so many digits behind the point count -/
def pw3 (k : Int) : Int := if k = 1 then 100 else if k = 2 then 10 else 1
noncomputable def fst (t : Int → Int) : Int := rh_if (t 0 = 45 ∨ t 0 = 43) 1 0
noncomputable def sgd (t : Int → Int) (v : Int) : Int := rh_if (t 0 = 45) (-v) v
/-- a text that is a number -/
def Nm (t : Int → Int) (m y : Int) : Prop := ∃ b, Dr t m (fst t) b ∧ (fst t < b ∧ b ≤ fst t + 6) ∧ ((b = m ∧ y = sgd t (1000 * vl t (fst t) (b - fst t).toNat)) ∨ (b < m ∧ (t b = 46 ∨ t b = 44) ∧ ∃ e, Dr t m (b + 1) e ∧ (b + 1 < e ∧ e ≤ b + 4) ∧ e = m ∧ y = sgd t (1000 * vl t (fst t) (b - fst t).toNat + pw3 (e - b - 1) * vl t (b + 1) (e - b - 1).toNat)))
theorem Nm.one {t : Int → Int} {m y z : Int} (h : Nm t m y) (h' : Nm t m z) : y = z := by
  obtain ⟨b, b1, b2, b3⟩ := h
  obtain ⟨c, c1, c2, c3⟩ := h'
  have e := b1.one c1
  rw [← e] at c2 c3
  rcases b3 with ⟨b4, b5⟩ | ⟨b4, b5, d, d1, d2, d3, d4⟩
  · rcases c3 with ⟨c4, c5⟩ | ⟨c4, -⟩
    · rw [b5, c5]
    · omega
  · rcases c3 with ⟨c4, -⟩ | ⟨c4, c5, f, f1, f2, f3, f4⟩
    · omega
    · rw [d4, f4, d3, f3]
theorem fst_b (t : Int → Int) : 0 ≤ fst t ∧ fst t ≤ 1 := by
  unfold fst
  by_cases h : t 0 = 45 ∨ t 0 = 43
  · rw [rh_if_t h]; decide
  · rw [rh_if_f h]; decide
end Number
