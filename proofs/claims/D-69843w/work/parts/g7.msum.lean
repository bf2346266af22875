/-! ===== pure: sums of words with some places at nought ===== -/
section MSum
theorem gpw_r (x : Int) : R16 (gpw (x % 15).toNat) := by
  have x1 := Int.emod_nonneg x (show (15 : Int) ≠ 0 by decide)
  have x2 := Int.emod_lt_of_pos x (show (0 : Int) < 15 by decide)
  have p := pwt_p (k := (x % 15).toNat) (by omega)
  unfold R16
  omega
theorem msum_r {y : Int → Int} {n j : Int} : ∀ N : Nat, (∀ i : Int, 0 ≤ i → i < N → R16 (y i)) → R16 (msum y n j N)
  | 0, _ => r16_0
  | N + 1, h => xor_r (msum_r N (fun i i0 i1 => h i i0 (by omega))) (gfm_r (h N (by omega) (by omega)) (gpw_r _))
theorem msum_e {y y2 : Int → Int} {n j : Int} : ∀ N : Nat, (∀ i : Int, 0 ≤ i → i < N → y i = y2 i) → msum y n j N = msum y2 n j N
  | 0, _ => rfl
  | N + 1, h => by
    show rh_xor (msum y n j N) (gfm (y N) (gpw ((j * (n - 1 - N)) % 15).toNat)) = rh_xor (msum y2 n j N) (gfm (y2 N) (gpw ((j * (n - 1 - N)) % 15).toNat))
    rw [msum_e N (fun i i0 i1 => h i i0 (by omega)), h N (by omega) (by omega)]
/-- one place at nought -/
theorem msum_1 {y y2 : Int → Int} {n j q : Int} (q0 : 0 ≤ q) (hq : y2 q = 0) : ∀ N : Nat, q < N → (∀ i : Int, 0 ≤ i → i < N → R16 (y i)) → (∀ i : Int, 0 ≤ i → i < N → i ≠ q → y2 i = y i) → msum y n j N = rh_xor (msum y2 n j N) (gfm (y q) (gpw ((j * (n - 1 - q)) % 15).toNat))
  | 0, h, _, _ => by omega
  | N + 1, h, h1, h2 => by
    have r1 := msum_r (y := y) (n := n) (j := j) N (fun i i0 i1 => h1 i i0 (by omega))
    have h2r : ∀ i : Int, 0 ≤ i → i < N → R16 (y2 i) := fun i i0 i1 => by
      by_cases z : i = q
      · rw [z, hq]; exact r16_0
      · rw [h2 i i0 (by omega) z]; exact h1 i i0 (by omega)
    have r2 := msum_r (y := y2) (n := n) (j := j) N h2r
    show rh_xor (msum y n j N) (gfm (y N) (gpw ((j * (n - 1 - N)) % 15).toNat)) = rh_xor (rh_xor (msum y2 n j N) (gfm (y2 N) (gpw ((j * (n - 1 - N)) % 15).toNat))) (gfm (y q) (gpw ((j * (n - 1 - q)) % 15).toNat))
    by_cases z : (N : Int) = q
    · rw [msum_e (y := y) (y2 := y2) N (fun i i0 i1 => (h2 i i0 (by omega) (by omega)).symm), z, hq, (gfm_0 (gpw_r _)).1, (xor_0 r2).2.1]
    · have a := gfm_r (h1 N (by omega) (by omega)) (gpw_r (j * (n - 1 - N)))
      have b := gfm_r (h1 q q0 h) (gpw_r (j * (n - 1 - q)))
      rw [msum_1 q0 hq N (by omega) (fun i i0 i1 => h1 i i0 (by omega)) (fun i i0 i1 => h2 i i0 (by omega)), h2 N (by omega) (by omega) z, xor_as r2 b a, xor_c b a, ← xor_as r2 a b]
/-- the first t places at nought -/
noncomputable def wip0 (z : Int → Int) (pl : Int → Int) (t : Int) (i : Int) : Int := rh_if (∃ c, (0 ≤ c ∧ c < t) ∧ pl c = i) 0 (z i)
theorem msum_p {z pl : Int → Int} {n e : Int} {N : Nat} (hz : ∀ i : Int, 0 ≤ i → i < N → R16 (z i)) : ∀ t : Nat, (∀ c : Int, 0 ≤ c → c < t → 0 ≤ pl c ∧ pl c < N) → (∀ a b : Int, 0 ≤ a → a < t → 0 ≤ b → b < t → pl a = pl b → a = b) → msum z n (e + 1) N = rh_xor (msum (wip0 z pl t) n (e + 1) N) (xs (fun c => z (pl c)) (fun c => pwr e (n - 1 - pl c)) t)
  | 0, _, _ => by
    have h : ∀ i : Int, 0 ≤ i → i < N → wip0 z pl ((0 : Nat) : Int) i = z i := fun i _ _ => rh_if_f (fun ⟨c, c1, _⟩ => by omega)
    show msum z n (e + 1) N = rh_xor _ 0
    rw [msum_e N h, (xor_0 (msum_r N hz)).2.1]
  | t + 1, hp, hd => by
    have ih := msum_p (n := n) (e := e) hz t (fun c c0 c1 => hp c c0 (by omega)) (fun a b a0 a1 b0 b1 h => hd a b a0 (by omega) b0 (by omega) h)
    have pt := hp t (by omega) (by omega)
    have hr : ∀ i : Int, 0 ≤ i → i < N → R16 (wip0 z pl t i) := fun i i0 i1 => by
      unfold wip0
      by_cases q : ∃ c, (0 ≤ c ∧ c < (t : Int)) ∧ pl c = i
      · rw [rh_if_t q]; exact r16_0
      · rw [rh_if_f q]; exact hz i i0 i1
    have ht : wip0 z pl t (pl t) = z (pl t) := rh_if_f (fun ⟨c, c1, c2⟩ => by have := hd c t (by omega) (by omega) (by omega) (by omega) c2; omega)
    have h0 : wip0 z pl ((t + 1 : Nat) : Int) (pl t) = 0 := rh_if_t ⟨t, by omega, rfl⟩
    have ho : ∀ i : Int, 0 ≤ i → i < N → i ≠ pl t → wip0 z pl ((t + 1 : Nat) : Int) i = wip0 z pl t i := fun i i0 i1 ne => by
      unfold wip0
      by_cases q : ∃ c, (0 ≤ c ∧ c < (t : Int)) ∧ pl c = i
      · obtain ⟨c, c1, c2⟩ := q
        rw [rh_if_t ⟨c, by omega, c2⟩, rh_if_t ⟨c, c1, c2⟩]
      · rw [rh_if_f q, rh_if_f (fun ⟨c, c1, c2⟩ => by
          by_cases ct : c = t
          · rw [ct] at c2; exact ne c2.symm
          · exact q ⟨c, by omega, c2⟩)]
    have s1 := msum_1 (n := n) (j := e + 1) pt.1 h0 N pt.2 hr ho
    rw [ht] at s1
    have hr2 : ∀ i : Int, 0 ≤ i → i < N → R16 (wip0 z pl ((t + 1 : Nat) : Int) i) := fun i i0 i1 => by
      by_cases q : i = pl t
      · rw [q, h0]; exact r16_0
      · rw [ho i i0 i1 q]; exact hr i i0 i1
    have ra := msum_r (n := n) (j := e + 1) N hr2
    have rb := gfm_r (hz (pl t) pt.1 pt.2) (gpw_r ((e + 1) * (n - 1 - pl t)))
    have rc : R16 (xs (fun c => z (pl c)) (fun c => pwr e (n - 1 - pl c)) t) := xs_r t (fun c c0 c1 => hz _ (hp c c0 (by omega)).1 (hp c c0 (by omega)).2) (fun c c0 c1 => gpw_r _)
    rw [ih, s1, xor_as ra rb rc, xor_c rb rc]
    rfl
end MSum
