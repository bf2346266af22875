/-! ===== LAYER 2: isSolved against solvePlaces ===== -/
section Solved
variable {wh wm : rhW}
theorem m_zero (hm : rh_ms wm) {B : rhM} {n sz : Int} {m : Nat} (hm8 : m ≤ 8) (hz2 : 0 ≤ sz ∧ sz ≤ 15) (hp : ∀ c : Int, 0 ≤ c → c < m → 0 ≤ B 176 c ∧ B 176 c < sz) : ∀ (u : Nat) (k : Int) (X : rhM), k + u = m → 0 ≤ k → (∀ i, X 174 i = wip0 (B 174) (B 176) k i) → frx (fun c _ => c = 174) B X → ∃ X', eS wm YX32_solvePlaces 3 3 [(0, 2, 0), (1, 0, sz), (2, 0, n), (3, 0, m), (4, 0, k)] [] X 3 [(0, 2, 0), (1, 0, sz), (2, 0, n), (3, 0, m), (4, 0, m)] [] X' ∧ (∀ i, X' 174 i = wip0 (B 174) (B 176) m i) ∧ frx (fun c _ => c = 174) B X' := by
  intro u
  induction u with
  | zero =>
    intro k X hk k0 h g
    have e : k = m := by omega
    rw [e] at h ⊢
    exact ⟨X, eS.rf, h, g⟩
  | succ u ih =>
    intro k X hk k0 h g
    have pk := hp k k0 (by omega)
    obtain ⟨X', E, r⟩ := ih (k + 1) (rh_set X 174 (B 176 k) 0) (by omega) (by omega) (fun i => by
      unfold wip0
      by_cases e : i = B 176 k
      · rw [e, rh_set_s, rh_if_t ⟨k, by omega, rfl⟩]
      · rw [rh_set_j e, h i]
        unfold wip0
        by_cases q : ∃ c, (0 ≤ c ∧ c < k) ∧ B 176 c = i
        · obtain ⟨c, c1, c2⟩ := q
          rw [rh_if_t ⟨c, c1, c2⟩, rh_if_t ⟨c, by omega, c2⟩]
        · rw [rh_if_f q, rh_if_f (fun ⟨c, c1, c2⟩ => by
            by_cases ck : c = k
            · rw [ck] at c2; exact e c2.symm
            · exact q ⟨c, by omega, c2⟩)]) (g.st rfl)
    refine ⟨X', eS.of (fun P HP => ?_), r⟩
    refine rh1.of (rX32_solvePlaces_3 hm _ _ _ _ _ ?_)
    rw [g 176 k (by omega)]
    exact ⟨fun _ => ⟨⟨by omega, by omega⟩, ⟨by omega, by omega⟩, ⟨by omega, by omega⟩, rh1.s E HP⟩, fun z => by omega⟩
theorem t_rest (hh : rh_hs wh) (hm : rh_ms wm) {X Y : rhM} {H S : Int → Int → Int} {n : Int} {m : Nat} (hm8 : m ≤ 8) (hn : 1 ≤ n ∧ n ≤ 8) (h6 : X 213 6 = m) (MX : MtH X (m + 1) n H) (MY : Mtx Y n S) (heq : ∀ e : Int, (m : Int) ≤ e → e < n → S e 8 = H e m) : ∀ (u : Nat) (j : Int), j + u = n → (m : Int) ≤ j → ((∃ e, j ≤ e ∧ e < n ∧ H e m ≠ 0) ∧ (∀ P : Int → rhM → Prop, P 0 X → rh1 wh YX26_isSolved 2 212 [(0, 2, 213), (1, 0, n), (2, 0, m + 1), (3, 0, j)] [] X P) ∧ ∀ P : Int → rhM → Prop, P 0 Y → rh1 wm YX32_solvePlaces 3 179 [(0, 2, 0), (2, 0, n), (3, 0, m), (4, 0, j)] [] Y P) ∨ ((∀ e, j ≤ e → e < n → H e m = 0) ∧ eS wh YX26_isSolved 2 212 [(0, 2, 213), (1, 0, n), (2, 0, m + 1), (3, 0, j)] [] X 212 [(0, 2, 213), (1, 0, n), (2, 0, m + 1), (3, 0, n)] [] X ∧ eS wm YX32_solvePlaces 3 179 [(0, 2, 0), (2, 0, n), (3, 0, m), (4, 0, j)] [] Y 179 [(0, 2, 0), (2, 0, n), (3, 0, m), (4, 0, n)] [] Y) := by
  intro u
  induction u with
  | zero =>
    intro j hj j0
    have e : j = n := by omega
    rw [e]
    exact .inr ⟨fun e e0 e1 => by omega, eS.rf, eS.rf⟩
  | succ u ih =>
    intro j hj j0
    have m1 := mxi (w := (m : Int) + 1) (n := n) (a := j) (b := m) ⟨by omega, by omega⟩ hn.2 ⟨by omega, by omega⟩ ⟨by omega, by omega⟩
    have hx := MX j m (by omega) (by omega) (by omega) (by omega)
    have hy := MY j 8 (by omega) (by omega) (by decide) (by decide)
    rw [heq j j0 (by omega)] at hy
    by_cases z : H j m = 0
    · have sH : ∀ P : Int → rhM → Prop, rh1 wh YX26_isSolved 2 212 [(0, 2, 213), (1, 0, n), (2, 0, m + 1), (3, 0, j + 1)] [] X P → rh1 wh YX26_isSolved 2 212 [(0, 2, 213), (1, 0, n), (2, 0, m + 1), (3, 0, j)] [] X P := fun P HP => by
        refine rh1.of (rX26_isSolved_212 hh _ _ _ _ ?_)
        rw [h6, hx]
        exact ⟨fun _ => ⟨⟨by omega, by omega⟩, fun y => absurd z y, fun _ => ⟨⟨by omega, by omega⟩, HP⟩⟩, fun y => by omega⟩
      have sM : ∀ P : Int → rhM → Prop, rh1 wm YX32_solvePlaces 3 179 [(0, 2, 0), (2, 0, n), (3, 0, m), (4, 0, j + 1)] [] Y P → rh1 wm YX32_solvePlaces 3 179 [(0, 2, 0), (2, 0, n), (3, 0, m), (4, 0, j)] [] Y P := fun P HP => by
        refine rh1.of (rX32_solvePlaces_179 hm _ _ _ _ ?_)
        rw [hy]
        exact ⟨fun _ => ⟨⟨by omega, by omega⟩, fun y => absurd z y, fun _ => ⟨⟨by omega, by omega⟩, HP⟩⟩, fun y => by omega⟩
      rcases ih (j + 1) (by omega) (by omega) with ⟨⟨e, a0, a1, a2⟩, q1, q2⟩ | ⟨q0, q1, q2⟩
      · exact .inl ⟨⟨e, by omega, a1, a2⟩, fun P HP => sH P (q1 P HP), fun P HP => sM P (q2 P HP)⟩
      · exact .inr ⟨fun e e0 e1 => by
          by_cases ze : e = j
          · rw [ze]; exact z
          · exact q0 e (by omega) e1, (eS.of (fun P HP => sH P HP)).tr q1, (eS.of (fun P HP => sM P HP)).tr q2⟩
    · refine .inl ⟨⟨j, by omega, by omega, z⟩, fun P HP => ?_, fun P HP => ?_⟩
      · refine rh1.of (rX26_isSolved_212 hh _ _ _ _ ?_)
        rw [h6, hx]
        exact ⟨fun _ => ⟨⟨by omega, by omega⟩, fun _ => HP, fun y => absurd z y⟩, fun y => by omega⟩
      · refine rh1.of (rX32_solvePlaces_179 hm _ _ _ _ ?_)
        rw [hy]
        exact ⟨fun _ => ⟨⟨by omega, by omega⟩, fun _ => HP, fun y => absurd z y⟩, fun y => by omega⟩
theorem h_vals (hh : rh_hs wh) {A : rhM} {H : Int → Int → Int} {n : Int} {m : Nat} (R : Rmn A) (hm8 : m ≤ 8) (hn : 1 ≤ n ∧ n ≤ 8) (hmn : (m : Int) ≤ n) (h6 : A 213 6 = m) (MX : MtH A (m + 1) n H) (hH : ∀ e c : Int, 0 ≤ e → e < n → 0 ≤ c → c ≤ m → R16 (H e c)) (hd : ∀ c : Int, 0 ≤ c → c < m → H c c ≠ 0) : ∀ (u : Nat) (k : Int) (X : rhM), k + u = m → 0 ≤ k → (∀ c, 0 ≤ c → c < k → X 220 c = gfm (H c m) (giv (H c c))) → frx (fun c _ => c = 220) A X → ∃ X', (∀ P : Int → rhM → Prop, P 1 X' → rh1 wh YX26_isSolved 2 243 [(0, 2, 213), (2, 0, m + 1), (3, 0, k)] [] X P) ∧ (∀ c : Int, 0 ≤ c → c < m → X' 220 c = gfm (H c m) (giv (H c c))) ∧ frx (fun c _ => c = 220) A X' := by
  intro u
  induction u with
  | zero =>
    intro k X hk k0 h g
    have e : k = m := by omega
    rw [e] at h ⊢
    refine ⟨X, fun P HP => ?_, h, g⟩
    refine rh1.of (rX26_isSolved_243 hh _ _ _ ?_)
    rw [g 213 6 (by omega), h6]
    exact ⟨fun z => by omega, fun _ => HP⟩
  | succ u ih =>
    intro k X hk k0 h g
    have m1 := mxi (w := (m : Int) + 1) (n := n) (a := k) (b := m) ⟨by omega, by omega⟩ hn.2 ⟨by omega, by omega⟩ ⟨by omega, by omega⟩
    have m2 := mxi (w := (m : Int) + 1) (n := n) (a := k) (b := k) ⟨by omega, by omega⟩ hn.2 ⟨by omega, by omega⟩ ⟨by omega, by omega⟩
    have RX : Rmn X := ⟨fun i i0 i1 => by rw [g 214 i (by omega)]; exact R.1 i i0 i1, fun i i0 i1 => by rw [g 215 i (by omega)]; exact R.2 i i0 i1⟩
    have hkm := hH k m k0 (by omega) (by omega) (Int.le_refl _)
    have hkk := hH k k k0 (by omega) k0 (by omega)
    have hk1 : 1 ≤ H k k ∧ H k k < 16 := by have := hd k k0 (by omega); unfold R16 at hkk; omega
    have t := by_e2 RX hkm hk1
    have x1 : X 219 (((m : Int) + 1) * k + m) = H k m := by rw [g 219 _ (by omega)]; exact MX k m k0 (by omega) (by omega) (by omega)
    have x2 : X 219 (((m : Int) + 1) * k + k) = H k k := by rw [g 219 _ (by omega)]; exact MX k k k0 (by omega) k0 (by omega)
    obtain ⟨X', E, r⟩ := ih (k + 1) (rh_set X 220 k (gfm (H k m) (giv (H k k)))) (by omega) (by omega) (fun c c0 c1 => by
      by_cases e : c = k
      · rw [e, rh_set_s]
      · rw [rh_set_j e]; exact h c c0 (by omega)) (g.st rfl)
    refine ⟨X', fun P HP => ?_, r⟩
    refine rh1.of (rX26_isSolved_243 hh _ _ _ ?_)
    rw [g 213 6 (by omega), h6, x1, x2, t.1]
    refine ⟨fun _ => ⟨⟨by omega, by omega⟩, ⟨by omega, by omega⟩, fun _ => hkm, fun _ => hkk, t.2, ?_⟩, fun z => by omega⟩
    (intro zq hzq; replace hzq := hzq.symm; subst hzq)
    exact ⟨⟨by omega, by omega⟩, ⟨by omega, by omega⟩, E P HP⟩
theorem m_vals (hm : rh_ms wm) {B : rhM} {S : Int → Int → Int} {n : Int} {m : Nat} (hm8 : m ≤ 8) (hmn : (m : Int) ≤ n) (MY : Mtx B n S) : ∀ (u : Nat) (k : Int) (X : rhM), k + u = m → 0 ≤ k → (∀ c, 0 ≤ c → c < k → X 177 c = S c 8) → frx (fun c _ => c = 177) B X → ∃ X', (∀ P : Int → rhM → Prop, P 1 X' → rh1 wm YX32_solvePlaces 3 212 [(0, 2, 0), (3, 0, m), (4, 0, k)] [] X P) ∧ (∀ c : Int, 0 ≤ c → c < m → X' 177 c = S c 8) ∧ frx (fun c _ => c = 177) B X' := by
  intro u
  induction u with
  | zero =>
    intro k X hk k0 h g
    have e : k = m := by omega
    rw [e] at h ⊢
    refine ⟨X, fun P HP => ?_, h, g⟩
    refine rh1.of (rX32_solvePlaces_212 hm _ _ _ ?_)
    exact ⟨fun z => by omega, fun _ => HP⟩
  | succ u ih =>
    intro k X hk k0 h g
    have x1 : X 175 (9 * k + 8) = S k 8 := by rw [g 175 _ (by omega)]; exact MY k 8 k0 (by omega) (by decide) (by decide)
    obtain ⟨X', E, r⟩ := ih (k + 1) (rh_set X 177 k (S k 8)) (by omega) (by omega) (fun c c0 c1 => by
      by_cases e : c = k
      · rw [e, rh_set_s]
      · rw [rh_set_j e]; exact h c c0 (by omega)) (g.st rfl)
    refine ⟨X', fun P HP => ?_, r⟩
    refine rh1.of (rX32_solvePlaces_212 hm _ _ _ ?_)
    rw [x1]
    exact ⟨fun _ => ⟨⟨by omega, by omega⟩, ⟨by omega, by omega⟩, ⟨by omega, by omega⟩, E P HP⟩, fun z => by omega⟩
end Solved
