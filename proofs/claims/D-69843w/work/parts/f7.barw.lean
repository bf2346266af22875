/-! ===== LAYER 2: bars: which runs are wide, how wide they are together ===== -/
section BarW
variable {wh wm : rhW}
/-- whether run r of a code of n digits is wide -/
noncomputable def wdv (g : Int → Int) (n r : Int) : Int := rh_if (0 ≤ r - 4 ∧ r - 4 < 5 * n) (rh_if (rh_and (rh_shr (rh_tb 6 (g ((r - 4) / 10 * 2 + (r - 4) % 2))) (4 - (r - 4) % 10 / 2)) 1 = 1) 1 0) (rh_if (r - 4 = 5 * n) 1 0)
theorem wdv_0 {g : Int → Int} {n r : Int} (hn : 0 ≤ n) (h : r < 4 ∨ 5 * n < r - 4) : wdv g n r = 0 := by
  unfold wdv
  rw [rh_if_f (show ¬ (0 ≤ r - 4 ∧ r - 4 < 5 * n) by omega), rh_if_f (show ¬ r - 4 = 5 * n by omega)]
theorem wdv_1 {g : Int → Int} {n : Int} : wdv g n (4 + 5 * n) = 1 := by
  unfold wdv
  rw [rh_if_f (show ¬ (0 ≤ 4 + 5 * n - 4 ∧ 4 + 5 * n - 4 < 5 * n) by omega), rh_if_t (show 4 + 5 * n - 4 = 5 * n by omega)]
theorem wdv_d {g : Int → Int} {n k b e : Int} (hk : 0 ≤ k ∧ k + 2 ≤ n ∧ k % 2 = 0) (hb : 0 ≤ b ∧ b ≤ 4) (he : e = 0 ∨ e = 1) : wdv g n (4 + 5 * k + 2 * (4 - b) + e) = rh_if (rh_and (rh_shr (rh_tb 6 (g (k + e))) b) 1 = 1) 1 0 := by
  unfold wdv
  rw [rh_if_t (show 0 ≤ 4 + 5 * k + 2 * (4 - b) + e - 4 ∧ 4 + 5 * k + 2 * (4 - b) + e - 4 < 5 * n by omega), show (4 + 5 * k + 2 * (4 - b) + e - 4) / 10 * 2 + (4 + 5 * k + 2 * (4 - b) + e - 4) % 2 = k + e by omega, show 4 - (4 + 5 * k + 2 * (4 - b) + e - 4) % 10 / 2 = b by omega]
theorem wdv_01 {g : Int → Int} {n r : Int} : wdv g n r = 0 ∨ wdv g n r = 1 := by
  unfold wdv
  by_cases q : 0 ≤ r - 4 ∧ r - 4 < 5 * n
  · rw [rh_if_t q]; exact if01 _
  · rw [rh_if_f q]; exact if01 _
noncomputable def us (W : Int → Int) : Nat → Int
  | 0 => 0
  | m + 1 => us W m + rh_if (W m ≠ 0) 3 1
theorem us_b {W : Int → Int} : ∀ m : Nat, m ≤ us W m ∧ us W m ≤ 3 * m
  | 0 => ⟨Int.le_refl _, by show (0 : Int) ≤ 3 * ((0 : Nat) : Int); decide⟩
  | m + 1 => by
    have r := us_b (W := W) m
    show ((m + 1 : Nat) : Int) ≤ us W m + rh_if (W m ≠ 0) 3 1 ∧ us W m + rh_if (W m ≠ 0) 3 1 ≤ 3 * ((m + 1 : Nat) : Int)
    by_cases q : W m ≠ 0
    · rw [rh_if_t q]; omega
    · rw [rh_if_f q]; omega
theorem us_m {W : Int → Int} {m m' : Nat} (h : m ≤ m') : us W m + (m' - m : Nat) ≤ us W m' := by
  induction m' with
  | zero =>
    have e : m = 0 := by omega
    subst e
    exact Int.le_refl _
  | succ k ih =>
    by_cases e : m = k + 1
    · rw [e, Nat.sub_self]; exact Int.le_of_eq (Int.add_zero _)
    · have := ih (by omega)
      show us W m + _ ≤ us W k + rh_if (W k ≠ 0) 3 1
      by_cases q : W k ≠ 0
      · rw [rh_if_t q]; omega
      · rw [rh_if_f q]; omega
def b3 (x b : Int) : Int := if rh_and (rh_shr (rh_tb 6 x) b) 1 = 1 then 3 else 1
theorem b3_e {g : Int → Int} {n k b e r : Int} (hk : 0 ≤ k ∧ k + 2 ≤ n ∧ k % 2 = 0) (hb : 0 ≤ b ∧ b ≤ 4) (he : e = 0 ∨ e = 1) (hr : r = 4 + 5 * k + 2 * (4 - b) + e) : rh_if (wdv g n r ≠ 0) (3 : Int) 1 = b3 (g (k + e)) b := by
  rw [hr, wdv_d hk hb he]
  unfold b3
  by_cases q : rh_and (rh_shr (rh_tb 6 (g (k + e))) b) 1 = 1
  · rw [rh_if_t q, if_pos q, rh_if_t (by decide)]
  · rw [rh_if_f q, if_neg q, rh_if_f (by decide)]
theorem b3_9 {x : Int} (h : 0 ≤ x ∧ x ≤ 9) : b3 x 4 + b3 x 3 + b3 x 2 + b3 x 1 + b3 x 0 = 9 := by
  have h1 : (List.range 10).all (fun v => decide (b3 ((v : Nat) : Int) 4 + b3 (v : Int) 3 + b3 (v : Int) 2 + b3 (v : Int) 1 + b3 (v : Int) 0 = 9)) = true := by decide +kernel
  have h2 := of_decide_eq_true (List.all_eq_true.mp h1 x.toNat (List.mem_range.mpr (by omega)))
  rwa [show ((x.toNat : Nat) : Int) = x by omega] at h2
theorem us_10 {W : Int → Int} (m : Nat) : us W (m + 10) = us W m + rh_if (W (m : Nat) ≠ 0) 3 1 + rh_if (W ((m + 1 : Nat) : Int) ≠ 0) 3 1 + rh_if (W ((m + 2 : Nat) : Int) ≠ 0) 3 1 + rh_if (W ((m + 3 : Nat) : Int) ≠ 0) 3 1 + rh_if (W ((m + 4 : Nat) : Int) ≠ 0) 3 1 + rh_if (W ((m + 5 : Nat) : Int) ≠ 0) 3 1 + rh_if (W ((m + 6 : Nat) : Int) ≠ 0) 3 1 + rh_if (W ((m + 7 : Nat) : Int) ≠ 0) 3 1 + rh_if (W ((m + 8 : Nat) : Int) ≠ 0) 3 1 + rh_if (W ((m + 9 : Nat) : Int) ≠ 0) 3 1 := rfl
theorem us_d {g : Int → Int} {n : Int} (hn : 2 ≤ n ∧ n ≤ 14 ∧ n % 2 = 0) (hg : ∀ i, 0 ≤ i → i < n → 0 ≤ g i ∧ g i ≤ 9) : ∀ j : Nat, 2 * (j : Int) ≤ n → us (wdv g n) (4 + 10 * j) = 4 + 18 * j
  | 0, _ => by
    show us (wdv g n) 4 = 4 + 18 * ((0 : Nat) : Int)
    have e : ∀ r : Int, r < 4 → rh_if (wdv g n r ≠ 0) (3 : Int) 1 = 1 := fun r h => by rw [wdv_0 (by omega) (.inl h), rh_if_f (by decide)]
    show 0 + rh_if (wdv g n ((0 : Nat) : Int) ≠ 0) 3 1 + rh_if (wdv g n ((1 : Nat) : Int) ≠ 0) 3 1 + rh_if (wdv g n ((2 : Nat) : Int) ≠ 0) 3 1 + rh_if (wdv g n ((3 : Nat) : Int) ≠ 0) 3 1 = _
    rw [e _ (by decide), e _ (by decide), e _ (by decide), e _ (by decide)]
    decide
  | j + 1, h => by
    have r := us_d hn hg j (by omega)
    have hk : 0 ≤ 2 * (j : Int) ∧ 2 * (j : Int) + 2 ≤ n ∧ 2 * (j : Int) % 2 = 0 := by omega
    have d0 := b3_9 (hg (2 * (j : Int)) (by omega) (by omega))
    have d1 := b3_9 (hg (2 * (j : Int) + 1) (by omega) (by omega))
    have z0 : g (2 * (j : Int) + 0) = g (2 * (j : Int)) := by rw [Int.add_zero]
    rw [show 4 + 10 * (j + 1) = 4 + 10 * j + 10 by omega, us_10, r]
    rw [b3_e hk (b := 4) (e := 0) (by decide) (.inl rfl) (by omega), b3_e hk (b := 4) (e := 1) (by decide) (.inr rfl) (by omega), b3_e hk (b := 3) (e := 0) (by decide) (.inl rfl) (by omega), b3_e hk (b := 3) (e := 1) (by decide) (.inr rfl) (by omega), b3_e hk (b := 2) (e := 0) (by decide) (.inl rfl) (by omega), b3_e hk (b := 2) (e := 1) (by decide) (.inr rfl) (by omega), b3_e hk (b := 1) (e := 0) (by decide) (.inl rfl) (by omega), b3_e hk (b := 1) (e := 1) (by decide) (.inr rfl) (by omega), b3_e hk (b := 0) (e := 0) (by decide) (.inl rfl) (by omega), b3_e hk (b := 0) (e := 1) (by decide) (.inr rfl) (by omega), z0]
    omega
theorem us_all {g : Int → Int} {n : Int} (hn : 2 ≤ n ∧ n ≤ 14 ∧ n % 2 = 0) (hg : ∀ i, 0 ≤ i → i < n → 0 ≤ g i ∧ g i ≤ 9) : us (wdv g n) (7 + 5 * n).toNat = 4 + 9 * n + 5 := by
  obtain ⟨j, hj⟩ : ∃ j : Nat, n = 2 * j := ⟨(n / 2).toNat, by omega⟩
  have r := us_d hn hg j (by omega)
  rw [show (7 + 5 * n).toNat = 4 + 10 * j + 1 + 1 + 1 by omega]
  show us (wdv g n) (4 + 10 * j) + rh_if (wdv g n ((4 + 10 * j : Nat) : Int) ≠ 0) 3 1 + rh_if (wdv g n ((4 + 10 * j + 1 : Nat) : Int) ≠ 0) 3 1 + rh_if (wdv g n ((4 + 10 * j + 1 + 1 : Nat) : Int) ≠ 0) 3 1 = _
  rw [r, show ((4 + 10 * j : Nat) : Int) = 4 + 5 * n by omega, wdv_1, rh_if_t (by decide), wdv_0 (r := ((4 + 10 * j + 1 : Nat) : Int)) (by omega) (.inr (by omega)), wdv_0 (r := ((4 + 10 * j + 1 + 1 : Nat) : Int)) (by omega) (.inr (by omega)), rh_if_f (by decide)]
  omega
/-- the model's list of wide runs -/
def Wrt (B B1 : rhM) (n m : Int) : Prop := B1 0 212 = m ∧ (∀ r, 0 ≤ r → r < m → B1 166 r = wdv (B 167) n r) ∧ frx (fun c j => c = 166 ∨ (c = 0 ∧ j = 212)) B B1
theorem Wrt.add {B B1 : rhM} {n m v : Int} (W : Wrt B B1 n m) (hv : v = wdv (B 167) n m) : Wrt B (apg 166 212 B1 v) n (m + 1) := by
  obtain ⟨w1, w2, w3⟩ := W
  refine ⟨by rw [apg_p (by decide), w1], fun r r0 r1 => ?_, w3.tr (fun a i h => apg_o (fun e => absurd (.inl e) h) (fun e e2 => h (.inr ⟨e, e2⟩)))⟩
  by_cases e : r = m
  · rw [e, ← w1, apg_s (by decide), hv, w1]
  · rw [apg_o (fun _ => by omega) (fun z => by omega)]
    exact w2 r r0 (by omega)
theorem m_runs (hm : rh_ms wm) {B : rhM} {n : Int} (hn : 2 ≤ n ∧ n ≤ 14 ∧ n % 2 = 0) (hg : ∀ i, 0 ≤ i → i < n → 0 ≤ B 167 i ∧ B 167 i ≤ 9) (h0 : B 0 212 = 0) (x1 x2 x3 x4 x5 : Int) : ∃ B', eS wm YX32_bars 3 157 [(0, 2, 0), (1, 0, x1), (2, 0, x2), (3, 0, x3), (4, 0, x4), (5, 0, x5), (6, 0, n), (7, 0, 0)] [] B 283 [(0, 2, 0), (1, 0, x1), (2, 0, x2), (3, 0, x3), (4, 0, x4), (5, 0, x5), (7, 0, 0), (8, 0, 0)] [] B' ∧ Wrt B B' n (7 + 5 * n) := by
  have k1 : ∀ (u : Nat) (k : Int) (B1 : rhM), k + u = 4 → 0 ≤ k → Wrt B B1 n k → ∃ B', eS wm YX32_bars 3 157 [(0, 2, 0), (1, 0, x1), (2, 0, x2), (3, 0, x3), (4, 0, x4), (5, 0, x5), (6, 0, n), (7, 0, k)] [] B1 157 [(0, 2, 0), (1, 0, x1), (2, 0, x2), (3, 0, x3), (4, 0, x4), (5, 0, x5), (6, 0, n), (7, 0, 4)] [] B' ∧ Wrt B B' n 4 := by
    intro u
    induction u with
    | zero =>
      intro k B1 hk k0 W
      have e : k = 4 := by omega
      rw [e] at W ⊢
      exact ⟨B1, eS.rf, W⟩
    | succ u ih =>
      intro k B1 hk k0 W
      obtain ⟨B', E, r⟩ := ih (k + 1) (apg 166 212 B1 0) (by omega) (by omega) (W.add (wdv_0 (by omega) (.inl (by omega))).symm)
      refine ⟨B', eS.of (fun P HP => ?_), r⟩
      refine rh1.of (rX32_bars_157 hm _ _ _ _ _ _ _ _ ?_)
      refine ⟨fun _ => ⟨by rw [W.1]; exact ⟨by omega, by omega⟩, by decide, ?_, ⟨by omega, by omega⟩, rh1.s E HP⟩, fun z => by omega⟩
      rw [rh_set_a (by decide), W.1]
      exact ⟨by omega, by omega⟩
  have k2 : ∀ (u : Nat) (k b : Int) (B1 : rhM), u = b + 1 → (0 ≤ k ∧ k + 2 ≤ n ∧ k % 2 = 0) → b ≤ 4 → Wrt B B1 n (4 + 5 * k + 2 * (4 - b)) → ∃ B', eS wm YX32_bars 3 187 [(0, 2, 0), (1, 0, x1), (2, 0, x2), (3, 0, x3), (4, 0, x4), (5, 0, x5), (6, 0, n), (7, 0, k), (8, 0, b)] [] B1 187 [(0, 2, 0), (1, 0, x1), (2, 0, x2), (3, 0, x3), (4, 0, x4), (5, 0, x5), (6, 0, n), (7, 0, k), (8, 0, -1)] [] B' ∧ Wrt B B' n (4 + 5 * k + 10) := by
    intro u
    induction u with
    | zero =>
      intro k b B1 hb hk b4 W
      have e : b = -1 := by omega
      rw [e] at W ⊢
      rw [show 4 + 5 * k + 2 * (4 - -1) = 4 + 5 * k + 10 by omega] at W
      exact ⟨B1, eS.rf, W⟩
    | succ u ih =>
      intro k b B1 hb hk b4 W
      have d0 := hg k (by omega) (by omega)
      have d1 := hg (k + 1) (by omega) (by omega)
      have wa := wdv_d (g := B 167) (n := n) (k := k) (b := b) (e := 0) hk ⟨by omega, by omega⟩ (.inl rfl)
      have wb := wdv_d (g := B 167) (n := n) (k := k) (b := b) (e := 1) hk ⟨by omega, by omega⟩ (.inr rfl)
      rw [show 4 + 5 * k + 2 * (4 - b) + 0 = 4 + 5 * k + 2 * (4 - b) by omega, show k + 0 = k by omega] at wa
      obtain ⟨va, hva⟩ : ∃ va, va = rh_if (rh_and (rh_shr (rh_tb 6 (B 167 k)) b) 1 = 1) (1 : Int) 0 := ⟨_, rfl⟩
      obtain ⟨vb, hvb⟩ : ∃ vb, vb = rh_if (rh_and (rh_shr (rh_tb 6 (B 167 (k + 1))) b) 1 = 1) (1 : Int) 0 := ⟨_, rfl⟩
      have a01 : va = 0 ∨ va = 1 := by rw [hva]; exact if01 _
      have b01 : vb = 0 ∨ vb = 1 := by rw [hvb]; exact if01 _
      have W1 := W.add (hva.trans wa.symm)
      have W2 := W1.add (hvb.trans wb.symm)
      rw [show 4 + 5 * k + 2 * (4 - b) + 1 + 1 = 4 + 5 * k + 2 * (4 - (b + -1)) by omega] at W2
      obtain ⟨B', E, r⟩ := ih k (b + -1) (apg 166 212 (apg 166 212 B1 va) vb) (by omega) hk (by omega) W2
      refine ⟨B', eS.of (fun P HP => ?_), r⟩
      have e1 : B1 167 k = B 167 k := W.2.2 167 k (by omega)
      refine rh1.of (rX32_bars_187 hm _ _ _ _ _ _ _ _ _ ?_)
      rw [e1, tb6 d0.1 (by omega), ← hva, W.1]
      refine ⟨fun _ => ⟨⟨by omega, by omega⟩, ⟨by omega, by omega⟩, by omega, ?_, ?_⟩, fun z => by omega⟩
      · rw [rh_set_a (by decide), W.1]; exact ⟨by omega, by omega⟩
      intro X hX
      have eX : X = apg 166 212 B1 va := by rw [hX]; unfold apg; rw [W.1]
      have e2 : X 167 (k + 1) = B 167 (k + 1) := by rw [eX]; exact W1.2.2 167 _ (by omega)
      have e3 : X 0 212 = 4 + 5 * k + 2 * (4 - b) + 1 := by rw [eX]; exact W1.1
      rw [e2, tb6 d1.1 (by omega), ← hvb]
      refine ⟨⟨by omega, by omega⟩, by rw [e3]; exact ⟨by omega, by omega⟩, by omega, ?_, ⟨by omega, by omega⟩, ?_⟩
      · rw [rh_set_a (by decide), e3]; exact ⟨by omega, by omega⟩
      · rw [eX]
        exact rh1.s E HP
  have k3 : ∀ (u : Nat) (k : Int) (B1 : rhM), k + 2 * u = n → 0 ≤ k → Wrt B B1 n (4 + 5 * k) → ∃ B', eS wm YX32_bars 3 177 [(0, 2, 0), (1, 0, x1), (2, 0, x2), (3, 0, x3), (4, 0, x4), (5, 0, x5), (6, 0, n), (7, 0, k)] [] B1 177 [(0, 2, 0), (1, 0, x1), (2, 0, x2), (3, 0, x3), (4, 0, x4), (5, 0, x5), (6, 0, n), (7, 0, n)] [] B' ∧ Wrt B B' n (4 + 5 * n) := by
    intro u
    induction u with
    | zero =>
      intro k B1 hk k0 W
      have e : k = n := by omega
      rw [e] at W ⊢
      exact ⟨B1, eS.rf, W⟩
    | succ u ih =>
      intro k B1 hk k0 W
      obtain ⟨B2, E2, W2⟩ := k2 5 k 4 B1 (by decide) ⟨by omega, by omega, by omega⟩ (by decide) (by rw [show 4 + 5 * k + 2 * (4 - 4) = 4 + 5 * k by omega]; exact W)
      rw [show 4 + 5 * k + 10 = 4 + 5 * (k + 2) by omega] at W2
      obtain ⟨B', E, r⟩ := ih (k + 2) B2 (by omega) (by omega) W2
      refine ⟨B', eS.of (fun P HP => ?_), r⟩
      refine rh1.of (rX32_bars_177 hm _ _ _ _ _ _ _ _ ?_)
      refine ⟨fun _ => rh1.s E2 ?_, fun z => by omega⟩
      refine rh1.of (rX32_bars_187 hm _ _ _ _ _ _ _ _ _ ?_)
      exact ⟨fun z => absurd z (by decide), fun _ => ⟨⟨by omega, by omega⟩, rh1.s E HP⟩⟩
  obtain ⟨B1, E1, W1⟩ := k1 4 0 B (by decide) (by decide) ⟨h0, fun r r0 r1 => by omega, frx.rf⟩
  obtain ⟨B2, E2, W2⟩ := k3 (n / 2).toNat 0 B1 (by omega) (by decide) W1
  have W3 := W2.add (v := 1) wdv_1.symm
  have W4 := W3.add (v := 0) (wdv_0 (by omega) (.inr (by omega))).symm
  have W5 := W4.add (v := 0) (wdv_0 (by omega) (.inr (by omega))).symm
  rw [show 4 + 5 * n + 1 + 1 + 1 = 7 + 5 * n by omega] at W5
  refine ⟨_, E1.tr (eS.of (fun P HP => ?_)), W5⟩
  refine rh1.of (rX32_bars_157 hm _ _ _ _ _ _ _ _ ?_)
  refine ⟨fun z => absurd z (by decide), fun _ => rh1.s E2 ?_⟩
  refine rh1.of (rX32_bars_177 hm _ _ _ _ _ _ _ _ ?_)
  refine ⟨fun z => by omega, fun _ => ⟨by rw [W2.1]; exact ⟨by omega, by omega⟩, by decide, by rw [rh_set_a (by decide), W2.1]; exact ⟨by omega, by omega⟩, ?_⟩⟩
  intro X hX
  have eX : X = apg 166 212 B2 1 := hX
  rw [eX]
  refine ⟨by rw [W3.1]; exact ⟨by omega, by omega⟩, by decide, by rw [rh_set_a (by decide), W3.1]; exact ⟨by omega, by omega⟩, ?_⟩
  intro X' hX'
  have eX' : X' = apg 166 212 (apg 166 212 B2 1) 0 := hX'
  rw [eX']
  exact ⟨by rw [W4.1]; exact ⟨by omega, by omega⟩, by decide, by rw [rh_set_a (by decide), W4.1]; exact ⟨by omega, by omega⟩, HP⟩
theorem m_width (hm : rh_ms wm) {B B' : rhM} {n x5 : Int} (hn : 2 ≤ n ∧ n ≤ 14 ∧ n % 2 = 0) (hg : ∀ i, 0 ≤ i → i < n → 0 ≤ B 167 i ∧ B 167 i ≤ 9) (h5 : 1 ≤ x5 ∧ x5 ≤ 4) (W : Wrt B B' n (7 + 5 * n)) (x1 x2 x3 x4 : Int) : eS wm YX32_bars 3 283 [(0, 2, 0), (1, 0, x1), (2, 0, x2), (3, 0, x3), (4, 0, x4), (5, 0, x5), (7, 0, 0), (8, 0, 0)] [] B' 283 [(0, 2, 0), (1, 0, x1), (2, 0, x2), (3, 0, x3), (4, 0, x4), (5, 0, x5), (7, 0, x5 * (4 + 9 * n + 5)), (8, 0, 7 + 5 * n)] [] B' := by
  obtain ⟨w1, w2, w3⟩ := W
  have key : ∀ (u v : Nat), (v : Int) + u = 7 + 5 * n → eS wm YX32_bars 3 283 [(0, 2, 0), (1, 0, x1), (2, 0, x2), (3, 0, x3), (4, 0, x4), (5, 0, x5), (7, 0, x5 * us (wdv (B 167) n) v), (8, 0, (v : Int))] [] B' 283 [(0, 2, 0), (1, 0, x1), (2, 0, x2), (3, 0, x3), (4, 0, x4), (5, 0, x5), (7, 0, x5 * us (wdv (B 167) n) (7 + 5 * n).toNat), (8, 0, 7 + 5 * n)] [] B' := by
    intro u
    induction u with
    | zero =>
      intro v hv
      have e : v = (7 + 5 * n).toNat := by omega
      have e2 : (v : Int) = 7 + 5 * n := by omega
      rw [e2, e]
      exact eS.rf
    | succ u ih =>
      intro v hv
      have b := us_b (W := wdv (B 167) n) (v + 1)
      have bm : 0 ≤ x5 * us (wdv (B 167) n) (v + 1) ∧ x5 * us (wdv (B 167) n) (v + 1) ≤ 4 * 300 := ⟨Int.mul_nonneg (by omega) (by omega), Int.mul_le_mul h5.2 (by omega) (by omega) (by decide)⟩
      have e : x5 * us (wdv (B 167) n) v + rh_if (wdv (B 167) n (v : Int) ≠ 0) (3 * x5) x5 = x5 * us (wdv (B 167) n) (v + 1) := by
        show _ = x5 * (us (wdv (B 167) n) v + rh_if (wdv (B 167) n (v : Int) ≠ 0) 3 1)
        rw [Int.mul_add]
        by_cases q : wdv (B 167) n (v : Int) ≠ 0
        · rw [rh_if_t q, rh_if_t q, Int.mul_comm 3 x5]
        · rw [rh_if_f q, rh_if_f q, Int.mul_one]
      refine eS.of (fun P HP => ?_)
      refine rh1.of (rX32_bars_283 hm _ _ _ _ _ _ _ _ ?_)
      rw [w1, w2 v (by omega) (by omega), e]
      refine ⟨fun _ => ⟨⟨by omega, by omega⟩, ?_⟩, fun z => by omega⟩
      (intro zq hzq; replace hzq := hzq.symm; subst hzq)
      refine ⟨⟨by omega, by omega⟩, ⟨by omega, by omega⟩, ?_⟩
      rw [show (v : Int) + 1 = ((v + 1 : Nat) : Int) by omega]
      exact rh1.s (ih (v + 1) (by omega)) HP
  have K := key (7 + 5 * n).toNat 0 (by omega)
  rw [us_all hn hg] at K
  have e : x5 * us (wdv (B 167) n) 0 = 0 := Int.mul_zero _
  rw [e] at K
  exact K
end BarW
