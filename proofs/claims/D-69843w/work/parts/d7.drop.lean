/-! ===== LAYER 2: documents: drop ===== -/
section Drop
variable {wh wm : rhW}
theorem m_d98 (hm : rh_ms wm) {k : Int} (hk : 0 ≤ k ∧ k < 11) : ∀ (u : Nat) (i : Int) (B : rhM), i + u = 80 → 0 ≤ i → ∃ B', eS wm YX32_drop 0 98 [(0, 2, 0), (3, 0, k), (4, 0, i)] [] B 195 [(0, 2, 0), (3, 0, k), (4, 0, 0)] [] B' ∧ (∀ c j, (c = 149 ∨ c = 151 ∨ c = 153) → 80 * k + i ≤ j → j < 80 * k + 80 → B' c j = B c (j + 80)) ∧ frx (fun c j => (c = 149 ∨ c = 151 ∨ c = 153) ∧ 80 * k + i ≤ j ∧ j < 80 * k + 80) B B' := by
  intro u
  induction u with
  | zero =>
    intro i B hi i0
    refine ⟨B, eS.of (fun P HP => ?_), fun c j hc j0 j1 => by omega, frx.rf⟩
    refine rh1.of (rX32_drop_98 hm _ _ _ ?_)
    exact ⟨fun z => by omega, fun _ => HP⟩
  | succ u ih =>
    intro i B hi i0
    obtain ⟨B1, hB1⟩ : ∃ B1, B1 = rh_set (rh_set (rh_set B 149 (80 * k + i) (B 149 (80 * k + 80 + i))) 151 (80 * k + i) (B 151 (80 * k + 80 + i))) 153 (80 * k + i) (B 153 (80 * k + 80 + i)) := ⟨_, rfl⟩
    obtain ⟨B', E, v, F⟩ := ih (i + 1) B1 (by omega) (by omega)
    have f1 : frx (fun c j => (c = 149 ∨ c = 151 ∨ c = 153) ∧ j = 80 * k + i) B B1 := by rw [hB1]; exact ((frx.rf.st (by omega)).st (by omega)).st (by omega)
    refine ⟨B', eS.of (fun P HP => ?_), fun c j hc j0 j1 => ?_, (f1.w (fun c j h => by omega)).tr (F.w (fun c j h => by omega))⟩
    · refine rh1.of (rX32_drop_98 hm _ _ _ ?_)
      refine ⟨fun _ => ⟨⟨by omega, by omega⟩, ?_⟩, fun z => by omega⟩
      (intro zq hzq; replace hzq := hzq.symm; subst hzq)
      refine ⟨⟨by omega, by omega⟩, ?_⟩
      (intro zq hzq; replace hzq := hzq.symm; subst hzq)
      refine ⟨⟨by omega, by omega⟩, ?_⟩
      rw [rh_set_a (by decide)]
      (intro zq hzq; replace hzq := hzq.symm; subst hzq)
      refine ⟨⟨by omega, by omega⟩, ?_⟩
      (intro zq hzq; replace hzq := hzq.symm; subst hzq)
      refine ⟨⟨by omega, by omega⟩, ?_⟩
      rw [rh_set_a (by decide), rh_set_a (by decide)]
      (intro zq hzq; replace hzq := hzq.symm; subst hzq)
      refine ⟨⟨by omega, by omega⟩, ⟨by omega, by omega⟩, ?_⟩
      rw [← hB1]
      exact rh1.s E HP
    · by_cases e : j = 80 * k + i
      · rw [F c j (by omega), hB1, e, show 80 * k + i + 80 = 80 * k + 80 + i by omega]
        rcases hc with rfl | rfl | rfl
        · rw [rh_set_a (by decide), rh_set_a (by decide), rh_set_s]
        · rw [rh_set_a (by decide), rh_set_s]
        · rw [rh_set_s]
      · rw [v c j hc (by omega) j1, f1 c _ (by omega)]
theorem m_d195 (hm : rh_ms wm) {k : Int} (hk : 0 ≤ k ∧ k < 11) : ∀ (u : Nat) (i : Int) (B : rhM), i + u = 960 → 0 ≤ i → ∃ B', eS wm YX32_drop 0 195 [(0, 2, 0), (3, 0, k), (4, 0, i)] [] B 59 [(0, 2, 0), (3, 0, k + 1)] [] B' ∧ (∀ c j, (c = 150 ∨ c = 152) → 960 * k + i ≤ j → j < 960 * k + 960 → B' c j = B c (j + 960)) ∧ frx (fun c j => (c = 150 ∨ c = 152) ∧ 960 * k + i ≤ j ∧ j < 960 * k + 960) B B' := by
  intro u
  induction u with
  | zero =>
    intro i B hi i0
    refine ⟨B, eS.of (fun P HP => ?_), fun c j hc j0 j1 => by omega, frx.rf⟩
    refine rh1.of (rX32_drop_195 hm _ _ _ ?_)
    exact ⟨fun z => by omega, fun _ => ⟨⟨by omega, by omega⟩, HP⟩⟩
  | succ u ih =>
    intro i B hi i0
    obtain ⟨B1, hB1⟩ : ∃ B1, B1 = rh_set (rh_set B 150 (960 * k + i) (B 150 (960 * k + 960 + i))) 152 (960 * k + i) (B 152 (960 * k + 960 + i)) := ⟨_, rfl⟩
    obtain ⟨B', E, v, F⟩ := ih (i + 1) B1 (by omega) (by omega)
    have f1 : frx (fun c j => (c = 150 ∨ c = 152) ∧ j = 960 * k + i) B B1 := by rw [hB1]; exact (frx.rf.st (by omega)).st (by omega)
    refine ⟨B', eS.of (fun P HP => ?_), fun c j hc j0 j1 => ?_, (f1.w (fun c j h => by omega)).tr (F.w (fun c j h => by omega))⟩
    · refine rh1.of (rX32_drop_195 hm _ _ _ ?_)
      refine ⟨fun _ => ⟨⟨by omega, by omega⟩, ?_⟩, fun z => by omega⟩
      (intro zq hzq; replace hzq := hzq.symm; subst hzq)
      refine ⟨⟨by omega, by omega⟩, ?_⟩
      (intro zq hzq; replace hzq := hzq.symm; subst hzq)
      refine ⟨⟨by omega, by omega⟩, ?_⟩
      rw [rh_set_a (by decide)]
      (intro zq hzq; replace hzq := hzq.symm; subst hzq)
      refine ⟨⟨by omega, by omega⟩, ⟨by omega, by omega⟩, ?_⟩
      rw [← hB1]
      exact rh1.s E HP
    · by_cases e : j = 960 * k + i
      · rw [F c j (by omega), hB1, e, show 960 * k + i + 960 = 960 * k + 960 + i by omega]
        rcases hc with rfl | rfl
        · rw [rh_set_a (by decide), rh_set_s]
        · rw [rh_set_s]
      · rw [v c j hc (by omega) j1, f1 c _ (by omega)]
def Gdp (p c j : Int) : Prop := (c = 0 ∧ (j = 0 ∨ j = 186)) ∨ ((c = 147 ∨ c = 148) ∧ p ≤ j) ∨ ((c = 149 ∨ c = 151 ∨ c = 153) ∧ 80 * p ≤ j) ∨ ((c = 150 ∨ c = 152) ∧ 960 * p ≤ j)
theorem m_dropS (hm : rh_ms wm) {n : Int} (hn : 0 ≤ n ∧ n < 12) : ∀ (u : Nat) (k : Int) (B : rhM), k + u = n → 0 ≤ k → B 0 186 = n → ∃ B', eS wm YX32_drop 0 59 [(0, 2, 0), (3, 0, k)] [] B 59 [(0, 2, 0), (3, 0, n)] [] B' ∧ (∀ c j, (c = 147 ∨ c = 148) → k ≤ j → j < n → B' c j = B c (j + 1)) ∧ (∀ c j, (c = 149 ∨ c = 151 ∨ c = 153) → 80 * k ≤ j → j < 80 * n → B' c j = B c (j + 80)) ∧ (∀ c j, (c = 150 ∨ c = 152) → 960 * k ≤ j → j < 960 * n → B' c j = B c (j + 960)) ∧ frx (fun c j => ((c = 147 ∨ c = 148) ∧ k ≤ j) ∨ ((c = 149 ∨ c = 151 ∨ c = 153) ∧ 80 * k ≤ j) ∨ ((c = 150 ∨ c = 152) ∧ 960 * k ≤ j)) B B' := by
  intro u
  induction u with
  | zero =>
    intro k B hk k0 h
    have e : k = n := by omega
    subst e
    exact ⟨B, eS.rf, fun c j _ _ _ => by omega, fun c j _ _ _ => by omega, fun c j _ _ _ => by omega, frx.rf⟩
  | succ u ih =>
    intro k B hk k0 h
    obtain ⟨B1, hB1⟩ : ∃ B1, B1 = rh_set (rh_set B 147 k (B 147 (k + 1))) 148 k (B 148 (k + 1)) := ⟨_, rfl⟩
    have f1 : frx (fun c j => (c = 147 ∨ c = 148) ∧ j = k) B B1 := by rw [hB1]; exact (frx.rf.st (by omega)).st (by omega)
    obtain ⟨B2, E2, v2, f2⟩ := m_d98 hm (k := k) ⟨by omega, by omega⟩ 80 0 B1 (by decide) (by decide)
    obtain ⟨B3, E3, v3, f3⟩ := m_d195 hm (k := k) ⟨by omega, by omega⟩ 960 0 B2 (by decide) (by decide)
    obtain ⟨B', E4, a1, a2, a3, f4⟩ := ih (k + 1) B3 (by omega) (by omega) (by rw [f3 _ _ (by omega), f2 _ _ (by omega), f1 _ _ (by omega)]; exact h)
    refine ⟨B', eS.of (fun P HP => ?_), fun c j hc j0 j1 => ?_, fun c j hc j0 j1 => ?_, fun c j hc j0 j1 => ?_, (((f1.w (fun c j h => by omega)).tr (f2.w (fun c j h => by omega))).tr (f3.w (fun c j h => by omega))).tr (f4.w (fun c j h => by omega))⟩
    · refine rh1.of (rX32_drop_59 hm _ _ ?_)
      rw [h]
      refine ⟨fun _ => ⟨⟨by omega, by omega⟩, ⟨by omega, by omega⟩, ?_⟩, fun z => by omega⟩
      (intro zq hzq; replace hzq := hzq.symm; subst hzq)
      refine ⟨⟨by omega, by omega⟩, ⟨by omega, by omega⟩, ?_⟩
      rw [rh_set_a (by decide), ← hB1]
      exact rh1.s E2 (rh1.s E3 (rh1.s E4 HP))
    · by_cases e : j = k
      · rw [f4 c j (by omega), f3 c j (by omega), f2 c j (by omega), hB1, e]
        rcases hc with rfl | rfl
        · rw [rh_set_a (by decide), rh_set_s]
        · rw [rh_set_s]
      · rw [a1 c j hc (by omega) j1, f3 c _ (by omega), f2 c _ (by omega), f1 c _ (by omega)]
    · by_cases e : j < 80 * k + 80
      · rw [f4 c j (by omega), f3 c j (by omega), v2 c j hc (by omega) e, f1 c _ (by omega)]
      · rw [a2 c j hc (by omega) j1, f3 c _ (by omega), f2 c _ (by omega), f1 c _ (by omega)]
    · by_cases e : j < 960 * k + 960
      · rw [f4 c j (by omega), v3 c j hc (by omega) e, f2 c _ (by omega), f1 c _ (by omega)]
      · rw [a3 c j hc (by omega) j1, f3 c _ (by omega), f2 c _ (by omega), f1 c _ (by omega)]
/-- the house moves the documents up -/
theorem h_dropS (hh : rh_hs wh) {n x : Int} (hn : 0 < n ∧ n ≤ 12) (hx : rh_bl wh 3 x 0) : ∀ (u : Nat) (k : Int) (A : rhM), k + 1 + u = n → 0 ≤ k → A 98 1 = n → (∀ j, 0 ≤ j → j < 12 → rh_bl wh 3 (A 99 j) 0) → ∃ A', (∀ P : Int → rhM → Prop, P 0 A' → rh1 wh YX21_drop 0 9 [(0, 2, 98), (2, 2, x), (3, 0, k)] [] A P) ∧ (∀ j, k ≤ j → j < n - 1 → A' 99 j = A 99 (j + 1)) ∧ A' 99 (n - 1) = x ∧ A' 98 1 = n - 1 ∧ frx (fun c j => (c = 98 ∧ j = 1) ∨ (c = 99 ∧ k ≤ j ∧ j ≤ n - 1)) A A' := by
  intro u
  induction u with
  | zero =>
    intro k A hk k0 h hb
    refine ⟨rh_set (rh_set A 98 1 (n - 1)) 99 (n - 1) x, fun P HP => ?_, fun j j0 j1 => by omega, rh_set_s _ _ _ _, by rw [rh_set_a (by decide), rh_set_s], (frx.rf.st (by omega)).st (by omega)⟩
    refine rh1.of (rX21_drop_9 hh _ _ _ hx ?_)
    rw [h]
    refine ⟨⟨by omega, by omega⟩, fun z => by omega, fun _ => ⟨⟨by omega, by omega⟩, ?_⟩⟩
    (intro zq hzq; replace hzq := hzq.symm; subst hzq)
    rw [rh_set_s]
    refine rh1.s (vX21_drop_58 hh hx ⟨by omega, by omega⟩) ?_
    refine rh1.of (rX21_drop_59 hh _ ?_)
    exact HP
  | succ u ih =>
    intro k A hk k0 h hb
    have f1 : frx (fun c j => c = 99 ∧ j = k) A (rh_set A 99 k (A 99 (k + 1))) := frx.rf.st (by omega)
    obtain ⟨A', E, a1, a2, a3, F⟩ := ih (k + 1) (rh_set A 99 k (A 99 (k + 1))) (by omega) (by omega) (by rw [rh_set_a (by decide)]; exact h) (fun j j0 j1 => by
      by_cases e : j = k
      · rw [e, rh_set_s]; exact hb (k + 1) (by omega) (by omega)
      · rw [rh_set_j e]; exact hb j j0 j1)
    refine ⟨A', fun P HP => ?_, fun j j0 j1 => ?_, a2, a3, (f1.w (fun c j h => by omega)).tr (F.w (fun c j h => by omega))⟩
    · refine rh1.of (rX21_drop_9 hh _ _ _ hx ?_)
      rw [h]
      refine ⟨⟨by omega, by omega⟩, fun _ => ⟨⟨by omega, by omega⟩, ?_⟩, fun z => by omega⟩
      refine rh1.s (vX21_drop_32 hh (hb (k + 1) (by omega) (by omega)) ⟨by omega, by omega⟩) ?_
      refine rh1.of (rX21_drop_33 hh _ _ _ hx ?_)
      exact ⟨⟨by omega, by omega⟩, E P HP⟩
    · by_cases e : j = k
      · rw [F 99 j (by omega), e, rh_set_s]
      · rw [a1 j (by omega) j1, rh_set_j (by omega)]
def Fdp (c j : Int) : Prop := (c = 98 ∧ j = 1) ∨ c = 99
theorem op_drop (hh : rh_hs wh) (hm : rh_ms wm) {Mh Mm : rhM} {N : Int} (D : Rar Mh Mm N) (x1 : Int) : rC2 wh YX1_drop 1 [(2, 0), (0, x1)] Mh wm YX32_drop 0 [(2, 0), (0, x1)] Mm (fun r M' r2 M2' => r = r2 ∧ Rar M' M2' N ∧ frx Fdp Mh M' ∧ frx (Gdp 0) Mm M2') := by
  refine rC2.of (by decide) (LE0 rfl) (by decide) (LE0 rfl) ?_
  obtain ⟨d1, d2, ⟨s, d3, d4⟩, d5, d6⟩ := D
  obtain ⟨n, hn⟩ : ∃ n, Mm 0 186 = n := ⟨_, rfl⟩
  rw [hn] at d1 d5 d6
  obtain ⟨M0, hM0⟩ : ∃ M0, M0 = rh_set Mm 0 0 0 := ⟨_, rfl⟩
  have en : ∀ c k, 0 < c → M0 c k = Mm c k := fun c k h => by rw [hM0]; exact rh_set_a (by omega)
  have e6 : M0 0 186 = n := by rw [hM0, rh_set_j (by decide)]; exact hn
  have e7 : M0 0 187 = Mm 0 187 := by rw [hM0]; exact rh_set_j (by decide)
  have g0 : frx (Gdp 0) Mm M0 := by rw [hM0]; exact frx.rf.st (by unfold Gdp; omega)
  have bl : ∀ j, 0 ≤ j → j < 12 → rh_bl wh 3 (Mh 99 j) 0 := fun j j0 j1 => by
    obtain ⟨h1, h2⟩ := d3 j j0 j1
    rw [h2]
    exact hs_dc hh h1.1 h1.2
  have num : ∀ k, 0 ≤ k → k < n → Mh (Mh 99 k) 0 = Mm 147 k := fun k k0 k1 => (d5 k k0 k1).1.1
  -- where it lies
  have PH : eC wh YX21_placeOf 0 [(2, 98), (0, x1)] Mh (fwd (fun k => Mm 147 k = x1) n.toNat 0) Mh := by
    refine eC.of1 (rC1.of (by decide) (LE0 rfl) ?_)
    have w : ∀ (u : Nat) (k : Int), k + u = n → 0 ≤ k → rh1 wh YX21_placeOf 0 2 [(0, 2, 98), (1, 0, x1), (2, 0, k)] [] Mh (fun r M' => r = fwd (fun k => Mm 147 k = x1) u k ∧ M' = Mh) := by
      intro u
      induction u with
      | zero =>
        intro k hk k0
        refine rh1.of (rX21_placeOf_2 hh _ _ _ ?_)
        rw [d1.1]
        exact ⟨fun z => by omega, fun _ => ⟨rfl, rfl⟩⟩
      | succ u ih =>
        intro k hk k0
        refine rh1.of (rX21_placeOf_2 hh _ _ _ ?_)
        rw [d1.1, num k k0 (by omega)]
        refine ⟨fun _ => ⟨⟨by omega, by omega⟩, bl k (by omega) (by omega), fun z => ⟨(fwd_t (E := fun k => Mm 147 k = x1) z).symm, rfl⟩, fun z => ⟨⟨by omega, by omega⟩, ?_⟩⟩, fun z => by omega⟩
        rw [fwd_f (E := fun k => Mm 147 k = x1) z]
        exact ih (k + 1) (by omega) (by omega)
    refine rh1.of (rX21_placeOf_0 hh _ _ ?_)
    exact w n.toNat 0 (by omega) (by omega)
  have PM : ∀ (u : Nat) (k y : Int), k + u = n → 0 ≤ k → (y = -1 ∨ (Mm 147 y = x1 ∧ 0 ≤ y ∧ y < k)) → eS wm YX32_drop 0 9 [(0, 2, 0), (1, 0, x1), (2, 0, y), (3, 0, k)] [] M0 9 [(0, 2, 0), (1, 0, x1), (2, 0, rh_if (y = -1) (fwd (fun k => Mm 147 k = x1) u k) y), (3, 0, n)] [] M0 := by
    intro u
    induction u with
    | zero =>
      intro k y hk k0 hy
      have e : k = n := by omega
      subst e
      rcases hy with rfl | hy
      · rw [rh_if_t rfl]; exact eS.rf
      · rw [rh_if_f (by omega)]; exact eS.rf
    | succ u ih =>
      intro k y hk k0 hy
      refine eS.of (fun P HP => ?_)
      refine rh1.of (rX32_drop_9 hm _ _ _ _ ?_)
      rw [e6, en 147 _ (by decide)]
      refine ⟨fun _ => ⟨⟨by omega, by omega⟩, ?_⟩, fun z => by omega⟩
      intro v hv
      refine ⟨⟨by omega, by omega⟩, ?_⟩
      by_cases q : Mm 147 k = x1
      · rw [rh_if_t q] at hv
        rw [hv]
        have ny : y = -1 := by
          rcases hy with h | h
          · exact h
          · have := d6 y k h.2.1 (by omega) k0 (by omega) (by rw [h.1, q])
            omega
        have E := ih (k + 1) k (by omega) (by omega) (.inr ⟨q, k0, (by omega)⟩)
        rw [rh_if_f (by omega)] at E
        rw [rh_if_t ny, fwd_t (E := fun k => Mm 147 k = x1) q] at HP
        exact rh1.s E HP
      · rw [rh_if_f q] at hv
        rw [hv]
        have E := ih (k + 1) y (by omega) (by omega) (by
          rcases hy with h | h
          · exact .inl h
          · exact .inr ⟨h.1, h.2.1, by omega⟩)
        rw [fwd_f (E := fun k => Mm 147 k = x1) q] at HP
        exact rh1.s E HP
  have PM0 := PM n.toNat 0 (-1) (by omega) (by decide) (.inl rfl)
  rw [rh_if_t rfl] at PM0
  obtain ⟨p, hp⟩ : ∃ p, p = fwd (fun k => Mm 147 k = x1) n.toNat 0 := ⟨_, rfl⟩
  have pb := fwd_b (E := fun k => Mm 147 k = x1) n.toNat 0
  rw [← hp] at PM0 PH pb
  refine rh2.l (rX1_drop_0 hh _ _ ?_)
  refine rh2.sl (vX1_drop_5 hh PH (LE0 rfl)) ?_
  refine rh2.l (rX1_drop_8 hh _ _ ?_)
  rcases pb with pn | ⟨p0, p1, p2⟩
  · refine ⟨fun _ => ?_, fun z => absurd pn z⟩
    refine rh1.of (rX32_drop_0 hm _ _ ?_)
    rw [← hM0]
    refine rh1.s PM0 ?_
    refine rh1.of (rX32_drop_9 hm _ _ _ _ ?_)
    rw [e6]
    refine ⟨fun z => by omega, fun _ => ⟨fun _ => ⟨rfl, ⟨by rw [e6]; exact d1, by rw [e7]; exact d2, ⟨s, d3, d4⟩, fun k k0 k1 => ?_, fun j k j0 j1 k0 k1 h => ?_⟩, frx.rf, g0⟩, fun z => absurd pn z⟩⟩
    · rw [e6] at k1
      rw [en 147 _ (by decide), e7]
      exact ⟨(d5 k k0 k1).1.fx (fun c j _ _ => rfl) (en 147 k (by decide)) (en 148 k (by decide)) (fun c j c0 _ _ _ => en c j (by omega)), (d5 k k0 k1).2⟩
    · rw [e6] at j1 k1
      rw [en 147 _ (by decide), en 147 _ (by decide)] at h
      exact d6 j k j0 j1 k0 k1 h
  · have pn : p ≠ -1 := by omega
    have p1' : p < n := by omega
    obtain ⟨A', EA, a1, a2, a3, fA⟩ := h_dropS hh (n := n) (x := Mh 99 p) ⟨by omega, by omega⟩ (bl p (by omega) (by omega)) (n - 1 - p).toNat p Mh (by omega) p0 d1.1 bl
    have KD : eC wh YX21_drop 0 [(2, 98), (0, p)] Mh 0 A' := eC.of1 (rC1.of (by decide) (LE0 rfl) (by
      refine rh1.of (rX21_drop_0 hh _ _ ?_)
      exact ⟨⟨by omega, by omega⟩, EA _ ⟨rfl, rfl⟩⟩))
    obtain ⟨B', EB, b1, b2, b3, gB⟩ := m_dropS hm (n := n - 1) ⟨by omega, by omega⟩ (n - 1 - p).toNat p (rh_set M0 0 186 (n - 1)) (by omega) p0 (rh_set_s _ _ _ _)
    have z6 : B' 0 186 = n - 1 := by rw [gB _ _ (by omega), rh_set_s]
    have z7 : B' 0 187 = Mm 0 187 := by rw [gB _ _ (by omega), rh_set_j (by decide)]; exact e7
    have b0 : ∀ c j, 0 < c → rh_set M0 0 186 (n - 1) c j = Mm c j := fun c j h => by rw [rh_set_a (by omega)]; exact en c j h
    refine ⟨fun z => absurd z pn, fun _ => ?_⟩
    refine rh2.sl (vX1_drop_22 hh KD (LE0 rfl)) ?_
    refine rh2.l (rX1_drop_25 hh _ ?_)
    refine rh1.of (rX32_drop_0 hm _ _ ?_)
    rw [← hM0]
    refine rh1.s PM0 ?_
    refine rh1.of (rX32_drop_9 hm _ _ _ _ ?_)
    rw [e6]
    refine ⟨fun z => by omega, fun _ => ⟨fun z => absurd z pn, fun _ => ⟨⟨by omega, by omega⟩, rh1.s EB ?_⟩⟩⟩
    refine rh1.of (rX32_drop_59 hm _ _ ?_)
    rw [z6, a3]
    have old : ∀ k, 0 ≤ k → k < n - 1 → ∃ k', (k' = k ∧ k < p ∨ k' = k + 1 ∧ p ≤ k) ∧ A' 99 k = Mh 99 k' ∧ B' 147 k = Mm 147 k' := fun k k0 k1 => by
      by_cases q : k < p
      · exact ⟨k, .inl ⟨rfl, q⟩, fA _ _ (by omega), by rw [gB _ _ (by omega)]; exact b0 _ _ (by decide)⟩
      · exact ⟨k + 1, .inr ⟨rfl, by omega⟩, a1 k (by omega) k1, by rw [b1 147 k (.inl rfl) (by omega) k1]; exact b0 _ _ (by decide)⟩
    refine ⟨fun z => by omega, fun _ => ⟨rfl, ⟨by rw [z6, a3]; omega, by rw [z7, fA _ _ (by omega)]; exact d2, ⟨fun k => if k < p then s k else if k < n - 1 then s (k + 1) else if k = n - 1 then s p else s k, fun k k0 k1 => ?_, fun j k j0 j1 k0 k1 h => ?_⟩, fun k k0 k1 => ?_, fun j k j0 j1 k0 k1 h => ?_⟩, fA.w (fun c j h => by unfold Fdp; omega), ((g0.st (by unfold Gdp; omega)).tr (gB.w (fun c j h => by unfold Gdp; omega)))⟩⟩
    · show (0 ≤ (if k < p then s k else if k < n - 1 then s (k + 1) else if k = n - 1 then s p else s k) ∧ (if k < p then s k else if k < n - 1 then s (k + 1) else if k = n - 1 then s p else s k) < 12) ∧ A' 99 k = 106 + 8 * (if k < p then s k else if k < n - 1 then s (k + 1) else if k = n - 1 then s p else s k)
      by_cases q1 : k < p
      · rw [if_pos q1, fA _ _ (by omega)]; exact d3 k k0 k1
      · rw [if_neg q1]
        by_cases q2 : k < n - 1
        · rw [if_pos q2, a1 k (by omega) q2]; exact d3 (k + 1) (by omega) (by omega)
        · rw [if_neg q2]
          by_cases q3 : k = n - 1
          · rw [if_pos q3, q3, a2]; exact d3 p (by omega) (by omega)
          · rw [if_neg q3, fA _ _ (by omega)]; exact d3 k k0 k1
    · have sh : ∀ k, 0 ≤ k → k < 12 → ∃ k', (0 ≤ k' ∧ k' < 12) ∧ (if k < p then s k else if k < n - 1 then s (k + 1) else if k = n - 1 then s p else s k) = s k' ∧ ((k < p ∧ k' = k) ∨ (p ≤ k ∧ k < n - 1 ∧ k' = k + 1) ∨ (p ≤ k ∧ k = n - 1 ∧ k' = p) ∨ (n - 1 < k ∧ k' = k)) := fun k k0 k1 => by
        by_cases q1 : k < p
        · exact ⟨k, ⟨by omega, by omega⟩, by rw [if_pos q1], .inl ⟨q1, rfl⟩⟩
        · by_cases q2 : k < n - 1
          · exact ⟨k + 1, ⟨by omega, by omega⟩, by rw [if_neg q1, if_pos q2], .inr (.inl ⟨by omega, q2, rfl⟩)⟩
          · by_cases q3 : k = n - 1
            · exact ⟨p, ⟨by omega, by omega⟩, by rw [if_neg q1, if_neg q2, if_pos q3], .inr (.inr (.inl ⟨by omega, q3, rfl⟩))⟩
            · exact ⟨k, ⟨by omega, by omega⟩, by rw [if_neg q1, if_neg q2, if_neg q3], .inr (.inr (.inr ⟨by omega, rfl⟩))⟩
      obtain ⟨j', jb, je, jc⟩ := sh j j0 j1
      obtain ⟨k', kb, ke, kc⟩ := sh k k0 k1
      have e : s j' = s k' := by rw [← je, ← ke]; exact h
      have := d4 j' k' jb.1 jb.2 kb.1 kb.2 e
      omega
    · rw [z6] at k1
      obtain ⟨k', hk, ea, eb⟩ := old k k0 k1
      have hk' : 0 ≤ k' ∧ k' < n := by omega
      obtain ⟨y1, y2, y3, y4⟩ := (d5 k' hk'.1 hk'.2).1
      have y5 := (d5 k' hk'.1 hk'.2).2
      have eb8 : B' 148 k = Mm 148 k' := by
        rcases hk with ⟨rfl, q⟩ | ⟨rfl, q⟩
        · rw [gB _ _ (by omega)]; exact b0 _ _ (by decide)
        · rw [b1 148 k (.inr rfl) (by omega) k1]; exact b0 _ _ (by decide)
      have c1 : ∀ c i, (c = 149 ∨ c = 151 ∨ c = 153) → 0 ≤ i → i < 80 → B' c (80 * k + i) = Mm c (80 * k' + i) := fun c i hc i0 i1 => by
        rcases hk with ⟨rfl, q⟩ | ⟨rfl, q⟩
        · rw [gB _ _ (by omega)]; exact b0 _ _ (by omega)
        · rw [b2 c _ hc (by omega) (by omega), b0 _ _ (by omega), show 80 * k + i + 80 = 80 * (k + 1) + i by omega]
      have c2 : ∀ c i, (c = 150 ∨ c = 152) → 0 ≤ i → i < 960 → B' c (960 * k + i) = Mm c (960 * k' + i) := fun c i hc i0 i1 => by
        rcases hk with ⟨rfl, q⟩ | ⟨rfl, q⟩
        · rw [gB _ _ (by omega)]; exact b0 _ _ (by omega)
        · rw [b3 c _ hc (by omega) (by omega), b0 _ _ (by omega), show 960 * k + i + 960 = 960 * (k + 1) + i by omega]
      have sk := d3 k' hk'.1 (by omega)
      have fx : ∀ c j, Mh 99 k' ≤ c → A' c j = Mh c j := fun c j h => fA c j (by omega)
      rw [ea, eb, z7]
      refine ⟨⟨?_, ?_, by rw [eb8]; exact y3, fun i i0 i1 => ?_⟩, y5⟩
      · rw [fx _ _ (by omega), eb]; exact y1
      · rw [fx _ _ (by omega), eb8]; exact y2
      · rw [eb8] at i1
        obtain ⟨w1, w2, w3, w4, w5⟩ := y4 i i0 i1
        unfold Dcw
        rw [c1 149 i (.inl rfl) i0 (by omega), c1 151 i (.inr (.inl rfl)) i0 (by omega), c1 153 i (.inr (.inr rfl)) i0 (by omega), fx _ _ (by omega), fx _ _ (by omega), fx _ _ (by omega)]
        refine ⟨w1, fun t t0 t1 => ?_, w3, fun t t0 t1 => ?_, w5⟩
        · rw [fx _ _ (by omega), show 12 * (80 * k + i) + t = 960 * k + (12 * i + t) by omega, c2 150 _ (.inl rfl) (by omega) (by omega), show 960 * k' + (12 * i + t) = 12 * (80 * k' + i) + t by omega]
          exact w2 t t0 t1
        · rw [fx _ _ (by omega), show 12 * (80 * k + i) + t = 960 * k + (12 * i + t) by omega, c2 152 _ (.inr rfl) (by omega) (by omega), show 960 * k' + (12 * i + t) = 12 * (80 * k' + i) + t by omega]
          exact w4 t t0 t1
    · rw [z6] at j1 k1
      obtain ⟨j', hj, -, ebj⟩ := old j j0 j1
      obtain ⟨k', hk, -, ebk⟩ := old k k0 k1
      rw [ebj, ebk] at h
      have := d6 j' k' (by omega) (by omega) (by omega) (by omega) h
      omega
end Drop
