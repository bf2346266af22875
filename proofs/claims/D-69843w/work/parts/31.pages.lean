/-! ===== LAYER 2: pages ===== -/
section Pages
variable {wh wm : rhW}
abbrev LE0 : ∀ {a b : Nat}, Nat.ble a b = true → a ≤ b := fun h => Nat.le_of_ble_eq_true h
/-- Sheet.take -/
theorem c_take (hh : rh_hs wh) {x y : Int} (hx : rh_bl wh 5 x 0) (hy : rh_bl wh 5 y 0) (hxy : y ≠ x) (M : rhM) (h0 : 0 ≤ M y 1 * M y 2) (h1 : M y 1 * M y 2 ≤ 6144) :
    eC wh YX5_take 1 [(2, x), (2, y)] M 0 (rh_cpy (rh_set (rh_set M x 1 (M y 1)) x 2 (M y 2)) (y + 1) 0 (x + 1) 0 (M y 1 * M y 2)) := by
  refine eC.of1 (rC1.of (by decide) (LE0 rfl) ?_)
  refine rh1.of (rX5_take_0 hh _ _ _ hx hy (fun M1 e1 M2 e2 => ?_))
  have a1 : M1 y 2 = M y 2 := by rw [e1]; exact rh_set_a hxy
  have b1 : M2 y 1 = M y 1 := by rw [e2, rh_set_a hxy, e1, rh_set_a hxy]
  have b2 : M2 y 2 = M y 2 := by rw [e2, rh_set_a hxy, e1, rh_set_a hxy]
  rw [b1, b2]
  refine ⟨⟨by omega, by omega⟩, ?_⟩
  refine rh1.s (vX5_take_30 (ty := .byte) (tt := 1) (n0 := 6144) (n1 := 6144) rfl rfl rfl hy.sheet hx.sheet rfl rfl rfl (by omega) (by omega) h0 (by omega) (by omega) (by decide) (by decide) (LE0 rfl)) ?_
  refine rh1.of (rX5_take_33 hh _ ⟨rfl, ?_⟩)
  rw [e2, a1, e1]
/-- Page.lay -/
def m_lay (M : rhM) (x y : Int) : rhM := rh_set (rh_set (rh_set (rh_set (rh_cpy (rh_set (rh_set M x 1 (M y 1)) x 2 (M y 2)) (y + 1) 0 (x + 1) 0 (M y 1 * M y 2)) x 3 1) x 4 0) (x + 9) 0 0) x 16 0
theorem c_lay (hh : rh_hs wh) {x y : Int} (hx : rh_bl wh 0 x 0) (hy : rh_bl wh 5 y 0) (hxy : y ≠ x) (M : rhM) (h0 : 0 ≤ M y 1 * M y 2) (h1 : M y 1 * M y 2 ≤ 6144) : eC wh YX29_lay 2 [(2, x), (2, y)] M 0 (m_lay M x y) := by
  refine eC.of1 (rC1.of (by decide) (LE0 rfl) ?_)
  refine rh1.of (rX29_lay_0 hh _ _ _ hx hy ?_)
  refine rh1.s (vX29_lay_2 hx (c_take hh hx.page5 hy hxy M h0 h1) (LE0 rfl)) ?_
  exact rh1.of (rX29_lay_5 hh _ _ hx ⟨by omega, by omega, by omega, rfl, rfl⟩)
/-- becomes -/
def m_bec (M : rhM) (p a b : Int) : rhM := rh_set (rh_set (rh_cpy (rh_set (rh_set M 4 p a) 5 p b) 6 0 3 (6144 * p) (a * b)) 23 p 0) 157 p 0
theorem c_bec (hm : rh_ms wm) {p a b : Int} (hp : 0 ≤ p ∧ p < 8) (M : rhM) (h0 : 0 ≤ a * b) (h1 : a * b ≤ 6144) : eC wm YX32_becomes 1 [(2, 0), (0, p), (0, a), (0, b)] M 0 (m_bec M p a b) := by
  refine eC.of1 (rC1.of (by decide) (LE0 rfl) ?_)
  refine rh1.of (rX32_becomes_0 hm _ _ _ _ ⟨hp, hp, ?_⟩)
  have key : ∀ (v : Nat) (k : Int), (a * b - k).toNat = v → 0 ≤ k → k ≤ a * b → rh1 wm YX32_becomes 1 17 [(0, 2, 0), (1, 0, p), (2, 0, a), (3, 0, b), (4, 0, k)] [] (rh_cpy (rh_set (rh_set M 4 p a) 5 p b) 6 0 3 (6144 * p) k) (fun r M' => r = 0 ∧ M' = m_bec M p a b) := by
    intro v
    induction v using Nat.strongRecOn with
    | ind v ih =>
      intro k hv k0 k1
      refine rh1.of (rX32_becomes_17 hm _ _ _ _ _ ⟨⟨by omega, by omega⟩, fun c => ⟨⟨by omega, by omega⟩, ⟨by omega, by omega⟩, ⟨by omega, by omega⟩, ?_⟩, fun c => ⟨hp, hp, rfl, ?_⟩⟩)
      · have e : rh_cpy (rh_set (rh_set M 4 p a) 5 p b) 6 0 3 (6144 * p) k 6 k = rh_set (rh_set M 4 p a) 5 p b 6 (0 + k) := by
          rw [rh_cpy_a (by decide), Int.zero_add]
        rw [e, rh_cpy_s k0]
        exact ih _ (by omega) (k + 1) rfl (by omega) (by omega)
      · have : k = a * b := by omega
        subst this
        rfl
  have := key _ 0 rfl (by omega) h0
  rw [rh_cpy0] at this
  exact this
/-- Sheet.fill -/
theorem c_fill (hh : rh_hs wh) {x g : Int} (hx : rh_bl wh 5 x 0) (M : rhM) (h0 : 0 ≤ M x 1 * M x 2) (h1 : M x 1 * M x 2 ≤ 6144) :
    rC1 wh YX5_fill 1 [(2, x), (0, g)] M (fun r M' => r = 0 ∧ frm (· = x + 1) M M' ∧ ∀ k, 0 ≤ k → k < M x 1 * M x 2 → M' (x + 1) k = rh_i2b g) := by
  refine rC1.of (by decide) (LE0 rfl) (rh1.of (rX5_fill_0 hh _ _ _ hx ?_))
  have key : ∀ (v : Nat) (k : Int) (M' : rhM), (M x 1 * M x 2 - k).toNat = v → 0 ≤ k → k ≤ M x 1 * M x 2 → frm (· = x + 1) M M' → (∀ j, 0 ≤ j → j < k → M' (x + 1) j = rh_i2b g) →
      rh1 wh YX5_fill 1 2 [(0, 2, x), (1, 0, g), (2, 0, k)] [] M' (fun r M' => r = 0 ∧ frm (· = x + 1) M M' ∧ ∀ k, 0 ≤ k → k < M x 1 * M x 2 → M' (x + 1) k = rh_i2b g) := by
    intro v
    induction v using Nat.strongRecOn with
    | ind v ih =>
      intro k M' hv k0 k1 f hj
      refine rh1.of (rX5_fill_2 hh _ _ _ _ hx ?_)
      rw [f.at (a := x) (j := 1) (by omega), f.at (a := x) (j := 2) (by omega)]
      refine ⟨⟨by omega, by omega⟩, fun c => ⟨⟨by omega, by omega⟩, ⟨by omega, by omega⟩, ?_⟩, fun c => ⟨rfl, f, fun j a b => hj j a (by omega)⟩⟩
      refine ih _ (by omega) (k + 1) _ rfl (by omega) (by omega) (f.st rfl) (fun j a b => ?_)
      by_cases e : j = k
      · rw [e, rh_set_s]
      · rw [rh_set_j e]; exact hj j a (by omega)
  exact key _ 0 M rfl (by omega) h0 frm.rf (fun j a b => by omega)
end Pages
