/-! ===== LAYER 2: the signs of a word that is to be mended ===== -/
section Signs
variable {wh wm : rhW}
def Fsg (c j : Int) : Prop := (c = 1 ∧ j = 3) ∨ (c = 3 ∧ j = 6) ∨ c = 216 ∨ (c = 213 ∧ j = 3)
/-- findSigns: too short or too long (0), a fault at the first sign above gr, or the word -/
theorem h_signs (hh : rh_hs wh) {A B : rhM} (T : Rtp A B) {lo hi gr : Int} (hhi : hi ≤ 15) : ∃ o A', cO wh YX1_findSigns 2 [(2, 0), (0, lo), (0, hi), (0, gr)] A o A' ∧ frx Fsg A A' ∧ ((o = some 0 ∧ ¬ (lo ≤ B 0 2 ∧ B 0 2 ≤ hi)) ∨ ((lo ≤ B 0 2 ∧ B 0 2 ≤ hi) ∧ ((o = none ∧ ∃ q, (0 ≤ q ∧ q < B 0 2) ∧ A' 3 6 = q ∧ gr < B 1 q ∧ ∀ i, 0 ≤ i → i < q → B 1 i ≤ gr) ∨ (o = some 1 ∧ A' 213 3 = B 0 2 ∧ ∀ i, 0 ≤ i → i < B 0 2 → A' 216 i = B 1 i ∧ B 1 i ≤ gr)))) := by
  obtain ⟨t1, t2, t3, t4⟩ := T
  obtain ⟨n, hn⟩ : ∃ n, B 0 2 = n := ⟨_, rfl⟩
  rw [hn] at t1 t2 t3 t4 ⊢
  by_cases rg : lo ≤ n ∧ n ≤ hi
  case neg =>
    have C : rCx wh YX1_findSigns 2 [(2, 0), (0, lo), (0, hi), (0, gr)] A (fun o' M' => o' = some 0 ∧ M' = rh_set A 1 3 0) := rCx.of (by decide) (LE0 rfl) (by
      refine rx1.of (rX1_findSigns_0 hh _ _ _ _ ?_)
      rw [t1]
      exact ⟨fun _ => ⟨rfl, rfl⟩, fun z => absurd rg z⟩)
    obtain ⟨o', M', c1, c2, c3⟩ := C
    rw [c2, c3] at c1
    exact ⟨some 0, _, c1, frx.rf.st (by unfold Fsg; omega), .inl ⟨rfl, rg⟩⟩
  have key : ∀ (u : Nat) (k : Int) (X : rhM), k + u = n → 0 ≤ k → X 1 3 = k → X 213 3 = n → (∀ i, 0 ≤ i → i < k → X 216 i = B 1 i ∧ B 1 i ≤ gr) → frx Fsg A X → ∃ o A', rx1 wh YX1_findSigns 2 33 [(0, 2, 0), (3, 0, gr)] [] X (fun o' M' => o' = o ∧ M' = A') ∧ frx Fsg A A' ∧ ((o = none ∧ ∃ q, (0 ≤ q ∧ q < n) ∧ A' 3 6 = q ∧ gr < B 1 q ∧ ∀ i, 0 ≤ i → i < q → B 1 i ≤ gr) ∨ (o = some 1 ∧ A' 213 3 = n ∧ ∀ i, 0 ≤ i → i < n → A' 216 i = B 1 i ∧ B 1 i ≤ gr)) := by
    intro u
    induction u with
    | zero =>
      intro k X hk k0 x13 x3 h g
      have e : k = n := by omega
      rw [e] at x13 h
      have x12 : X 1 2 = n := by rw [g 1 2 (by unfold Fsg; omega)]; exact t1
      refine ⟨some 1, X, ?_, g, .inr ⟨rfl, x3, h⟩⟩
      refine rx1.of (rX1_findSigns_33 hh _ _ ?_)
      rw [x13, x12]
      exact ⟨fun z => absurd rfl z, fun _ => ⟨rfl, rfl⟩⟩
    | succ u ih =>
      intro k X hk k0 x13 x3 h g
      have x12 : X 1 2 = n := by rw [g 1 2 (by unfold Fsg; omega)]; exact t1
      obtain ⟨v1, v2, v3⟩ := t4 k k0 (by omega)
      have ea : rh_and (X 2 k) 255 = B 1 k := by rw [g 2 k (by unfold Fsg; omega)]; exact v1
      have KN := c_next hh X x13 x12 ⟨by omega, by omega⟩ t3
      rw [ea] at KN
      by_cases ok : B 1 k ≤ gr
      · obtain ⟨o, A', H1, H2⟩ := ih (k + 1) (rh_set (rh_set X 1 3 (k + 1)) 216 k (B 1 k)) (by omega) (by omega) (by rw [rh_set_a (by decide), rh_set_s]) (by rw [rh_set_a (by decide), rh_set_a (by decide)]; exact x3) (fun i i0 i1 => by
          by_cases e : i = k
          · rw [e, rh_set_s]; exact ⟨rfl, ok⟩
          · rw [rh_set_j e, rh_set_a (by decide)]; exact h i i0 (by omega)) ((g.st (by unfold Fsg; omega)).st (by unfold Fsg; omega))
        refine ⟨o, A', ?_, H2⟩
        refine rx1.of (rX1_findSigns_33 hh _ _ ?_)
        rw [x13, x12]
        refine ⟨fun _ => ?_, fun z => absurd (show k ≠ n by omega) z⟩
        refine rx1.g (vgX1_findSigns_56 hh KN (LE0 rfl)) ?_
        refine rx1.of (rX1_findSigns_59 hh _ _ _ _ ?_)
        rw [rh_if_t ok]
        refine rx1.g (vgX1_findSigns_78 hh (c_must hh (by decide) _) (LE0 rfl)) ?_
        refine rx1.of (rX1_findSigns_81 hh _ _ _ _ ?_)
        exact ⟨⟨by omega, by omega⟩, H1⟩
      · refine ⟨none, rh_set (rh_set X 1 3 (k + 1)) 3 6 k, ?_, (g.st (by unfold Fsg; omega)).st (by unfold Fsg; omega), .inl ⟨rfl, k, ⟨by omega, by omega⟩, rh_set_s _ _ _ _, by omega, fun i i0 i1 => (h i i0 i1).2⟩⟩
        refine rx1.of (rX1_findSigns_33 hh _ _ ?_)
        rw [x13, x12]
        refine ⟨fun _ => ?_, fun z => absurd (show k ≠ n by omega) z⟩
        refine rx1.g (vgX1_findSigns_56 hh KN (LE0 rfl)) ?_
        refine rx1.of (rX1_findSigns_59 hh _ _ _ _ ?_)
        rw [rh_if_f ok]
        exact rx1.t (vtX1_findSigns_78 hh (c_mustT hh _) (LE0 rfl)) ⟨rfl, rfl⟩
  obtain ⟨o, A', H1, H2, H3⟩ := key n.toNat 0 (rh_set (rh_set A 1 3 0) 213 3 n) (by omega) (by decide) (by rw [rh_set_a (by decide), rh_set_s]) (rh_set_s _ _ _ _) (fun i i0 i1 => by omega) ((frx.rf.st (by unfold Fsg; omega)).st (by unfold Fsg; omega))
  have C : rCx wh YX1_findSigns 2 [(2, 0), (0, lo), (0, hi), (0, gr)] A (fun o' M' => o' = o ∧ M' = A') := rCx.of (by decide) (LE0 rfl) (by
    refine rx1.of (rX1_findSigns_0 hh _ _ _ _ ?_)
    rw [t1]
    exact ⟨fun z => absurd rg z, fun _ => H1⟩)
  obtain ⟨o', M', c1, c2, c3⟩ := C
  rw [c2, c3] at c1
  exact ⟨o, A', c1, H2, .inr ⟨rg, H3⟩⟩
end Signs
