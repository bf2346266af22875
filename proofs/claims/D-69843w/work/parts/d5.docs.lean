/-! ===== LAYER 2: documents: keep, hit ===== -/
section Docs
variable {wh wm : rhW}
theorem hs_dcR (hh : rh_hs wh) {k : Int} (h0 : 0 ≤ k) (h1 : k < 12) : rh_bl wh 4 (106 + 8 * k + 1) 80 ∧ rh_bl wh 4 (106 + 8 * k + 4) 80 := by
  have hc : (List.range 12).all (fun i => rh_btc 4 (107 + 8 * i) 80 0 635 && rh_btc 4 (110 + 8 * i) 80 0 635) = true := by decide +kernel
  have h2 := List.all_eq_true.mp hc k.toNat (by rw [List.mem_range]; omega)
  simp only [Bool.and_eq_true] at h2
  have a := rh_bl.of hh h2.1
  have b := rh_bl.of hh h2.2
  rw [show ((107 + 8 * k.toNat : Nat) : Int) = 106 + 8 * k + 1 by omega] at a
  rw [show ((110 + 8 * k.toNat : Nat) : Int) = 106 + 8 * k + 4 by omega] at b
  exact ⟨a, b⟩
/-- a word of a document; a document; the archive; what was found -/
def Dcw (A B : rhM) (x k i : Int) : Prop := (A (x + 3) i = B 149 (80 * k + i) ∧ 1 ≤ B 149 (80 * k + i) ∧ B 149 (80 * k + i) ≤ 12) ∧ (∀ t, 0 ≤ t → t < B 149 (80 * k + i) → A (x + 2) (12 * i + t) = B 150 (12 * (80 * k + i) + t) ∧ 33 ≤ B 150 (12 * (80 * k + i) + t) ∧ B 150 (12 * (80 * k + i) + t) ≤ 126) ∧ (A (x + 6) i = B 151 (80 * k + i) ∧ 0 ≤ B 151 (80 * k + i) ∧ B 151 (80 * k + i) ≤ 12) ∧ (∀ t, 0 ≤ t → t < B 151 (80 * k + i) → A (x + 5) (12 * i + t) = B 152 (12 * (80 * k + i) + t) ∧ 33 ≤ B 152 (12 * (80 * k + i) + t) ∧ B 152 (12 * (80 * k + i) + t) ≤ 126) ∧ (0 < B 151 (80 * k + i) → A (x + 7) i = B 153 (80 * k + i) ∧ 0 ≤ B 153 (80 * k + i) ∧ B 153 (80 * k + i) ≤ 63)
def Dcr (A B : rhM) (x k : Int) : Prop := A x 0 = B 147 k ∧ A x 1 = B 148 k ∧ (0 ≤ B 148 k ∧ B 148 k ≤ 80) ∧ ∀ i, 0 ≤ i → i < B 148 k → Dcw A B x k i
def Rar (A B : rhM) (N : Int) : Prop := (A 98 1 = B 0 186 ∧ 0 ≤ B 0 186 ∧ B 0 186 ≤ 12) ∧ (A 98 2 = B 0 187 ∧ 0 ≤ B 0 187 ∧ B 0 187 ≤ N) ∧ (∃ s : Int → Int, (∀ k, 0 ≤ k → k < 12 → (0 ≤ s k ∧ s k < 12) ∧ A 99 k = 106 + 8 * s k) ∧ ∀ j k, 0 ≤ j → j < 12 → 0 ≤ k → k < 12 → s j = s k → j = k) ∧ (∀ k, 0 ≤ k → k < B 0 186 → Dcr A B (A 99 k) k ∧ 0 ≤ B 147 k ∧ B 147 k < B 0 187) ∧ ∀ j k, 0 ≤ j → j < B 0 186 → 0 ≤ k → k < B 0 186 → B 147 j = B 147 k → j = k
def Rht (A B : rhM) : Prop := (A 98 5 = B 0 195 ∧ 0 ≤ B 0 195 ∧ B 0 195 ≤ 12) ∧ ∀ i, 0 ≤ i → i < B 0 195 → A 103 i = B 154 i ∧ A 104 i = B 155 i ∧ A 105 i = B 156 i
theorem op_hit (hh : rh_hs wh) (hm : rh_ms wm) {Mh Mm : rhM} (R : Rht Mh Mm) (x1 x2 : Int) : rC2 wh YX1_hit 1 [(2, 0), (0, x1), (0, x2)] Mh wm YX32_hit 1 [(2, 0), (0, x1), (0, x2)] Mm (fun r M' r2 M2' => r = r2 ∧ M' = Mh ∧ M2' = rh_set Mm 0 0 0) := by
  refine rC2.of (by decide) (LE0 rfl) (by decide) (LE0 rfl) ?_
  obtain ⟨a1, a2⟩ := R
  have en : ∀ c k, 0 < c → rh_set Mm 0 0 0 c k = Mm c k := fun c k h => rh_set_a (by omega)
  have e5 : rh_set Mm 0 0 0 0 195 = Mm 0 195 := rh_set_j (by decide)
  refine rh2.l (rX1_hit_0 hh _ _ _ ?_)
  refine ⟨fun c => ?_, fun c => ⟨⟨by omega, by omega⟩, fun d => ?_, fun d => ?_⟩⟩
  · refine rh1.of (rX32_hit_0 hm _ _ _ ?_)
    exact ⟨fun _ => ⟨rfl, rfl, rfl⟩, fun z => absurd c z⟩
  · refine rh1.of (rX32_hit_0 hm _ _ _ ?_)
    rw [e5]
    rw [a1.1] at d
    exact ⟨fun z => absurd z c, fun _ => ⟨⟨by omega, by omega⟩, fun _ => ⟨rfl, rfl, rfl⟩, fun z => absurd d z⟩⟩
  · rw [a1.1] at d
    have d' : 0 ≤ x1 ∧ x1 ≤ Mm 0 195 - 1 := Classical.byContradiction d
    obtain ⟨v1, v2, v3⟩ := a2 x1 (by omega) (by omega)
    refine ⟨fun e => ⟨⟨by omega, by omega⟩, ?_⟩, fun e => ⟨fun _ => ⟨by omega, by omega⟩, fun _ => ⟨by omega, by omega⟩, ?_⟩⟩
    · refine rh1.of (rX32_hit_0 hm _ _ _ ?_)
      rw [e5, en 154 _ (by decide)]
      exact ⟨fun z => absurd z c, fun _ => ⟨⟨by omega, by omega⟩, fun z => absurd z d, fun _ => ⟨fun _ => ⟨⟨by omega, by omega⟩, v1, rfl, rfl⟩, fun z => absurd e z⟩⟩⟩
    · refine rh1.of (rX32_hit_0 hm _ _ _ ?_)
      rw [e5, en 155 _ (by decide), en 156 _ (by decide)]
      refine ⟨fun z => absurd z c, fun _ => ⟨⟨by omega, by omega⟩, fun z => absurd z d, fun _ => ⟨fun z => absurd z e, fun _ => ⟨fun _ => ⟨by omega, by omega⟩, fun _ => ⟨by omega, by omega⟩, by rw [v2, v3], rfl, rfl⟩⟩⟩⟩
/-- the model's copies of a word -/
theorem m_keepT (hm : rh_ms wm) {r d i n : Int} (hr : 0 ≤ r ∧ r < 4) (hd : 0 ≤ d ∧ d < 12) (hi : 0 ≤ i ∧ i < 80) (hn : 0 ≤ n ∧ n ≤ 12) : ∀ (u : Nat) (t : Int) (M : rhM), t + u = n → 0 ≤ t → M 149 (80 * d + i) = n → ∃ M', eS wm YX32_keep 2 119 [(0, 2, 0), (1, 0, r), (2, 0, d), (3, 0, i), (4, 0, 80 * r + i), (5, 0, 80 * d + i), (6, 0, t)] [] M 119 [(0, 2, 0), (1, 0, r), (2, 0, d), (3, 0, i), (4, 0, 80 * r + i), (5, 0, 80 * d + i), (6, 0, n)] [] M' ∧ frx (fun c j => c = 150 ∧ 12 * (80 * d + i) ≤ j ∧ j < 12 * (80 * d + i) + 12) M M' ∧ (∀ s, t ≤ s → s < n → M' 150 (12 * (80 * d + i) + s) = wch M (80 * r + i) s) ∧ ∀ s, 0 ≤ s → s < t → M' 150 (12 * (80 * d + i) + s) = M 150 (12 * (80 * d + i) + s) := by
  intro u
  induction u with
  | zero =>
    intro t M ht t0 h
    have e : t = n := by omega
    rw [e]
    exact ⟨M, eS.rf, frx.rf, fun s s0 s1 => by omega, fun s _ _ => rfl⟩
  | succ u ih =>
    intro t M ht t0 h
    have f0 : frx (fun c j => c = 150 ∧ 12 * (80 * d + i) ≤ j ∧ j < 12 * (80 * d + i) + 12) M (rh_set M 150 (12 * (80 * d + i) + t) (wch M (80 * r + i) t)) := frx.rf.st (by omega)
    have w0 := wsz_f f0 (fun c j c0 c1 => by omega) (80 * r + i)
    obtain ⟨M', E, F, v1, v2⟩ := ih (t + 1) (rh_set M 150 (12 * (80 * d + i) + t) (wch M (80 * r + i) t)) (by omega) (by omega) (by rw [rh_set_a (by decide)]; exact h)
    refine ⟨M', eS.of (fun P HP => ?_), f0.tr F, fun s s0 s1 => ?_, fun s s0 s1 => ?_⟩
    · refine rh1.of (rX32_keep_119 hm _ _ _ _ _ _ _ ?_)
      rw [h]
      refine ⟨⟨by omega, by omega⟩, fun _ => ⟨⟨by omega, by omega⟩, fun _ => ⟨by omega, by omega⟩, fun _ => ⟨by omega, by omega⟩, ?_⟩, fun z => by omega⟩
      intro y hy
      have ey : y = wch M (80 * r + i) t := hy
      rw [ey]
      exact ⟨⟨by omega, by omega⟩, ⟨by omega, by omega⟩, rh1.s E HP⟩
    · by_cases e : s = t
      · rw [e, v2 t (by omega) (by omega), rh_set_s]
      · rw [v1 s (by omega) (by omega), w0.2]
    · rw [v2 s (by omega) (by omega), rh_set_j (by omega)]
theorem m_keepE (hm : rh_ms wm) {r d i n : Int} (hr : 0 ≤ r ∧ r < 4) (hd : 0 ≤ d ∧ d < 12) (hi : 0 ≤ i ∧ i < 80) (hn : 0 ≤ n ∧ n ≤ 12) : ∀ (u : Nat) (t : Int) (M : rhM), t + u = n → 0 ≤ t → M 151 (80 * d + i) = n → ∃ M', eS wm YX32_keep 2 232 [(0, 2, 0), (1, 0, r), (2, 0, d), (3, 0, i), (4, 0, 80 * r + i), (5, 0, 80 * d + i), (7, 0, t)] [] M 232 [(0, 2, 0), (1, 0, r), (2, 0, d), (3, 0, i), (4, 0, 80 * r + i), (5, 0, 80 * d + i), (7, 0, n)] [] M' ∧ frx (fun c j => c = 152 ∧ 12 * (80 * d + i) ≤ j ∧ j < 12 * (80 * d + i) + 12) M M' ∧ (∀ s, t ≤ s → s < n → M' 152 (12 * (80 * d + i) + s) = M 126 (12 * (4 * (80 * r + i) + 1) + s)) ∧ ∀ s, 0 ≤ s → s < t → M' 152 (12 * (80 * d + i) + s) = M 152 (12 * (80 * d + i) + s) := by
  intro u
  induction u with
  | zero =>
    intro t M ht t0 h
    have e : t = n := by omega
    rw [e]
    exact ⟨M, eS.rf, frx.rf, fun s s0 s1 => by omega, fun s _ _ => rfl⟩
  | succ u ih =>
    intro t M ht t0 h
    obtain ⟨M', E, F, v1, v2⟩ := ih (t + 1) (rh_set M 152 (12 * (80 * d + i) + t) (M 126 (12 * (4 * (80 * r + i) + 1) + t))) (by omega) (by omega) (by rw [rh_set_a (by decide)]; exact h)
    refine ⟨M', eS.of (fun P HP => ?_), (frx.rf.st (by omega)).tr F, fun s s0 s1 => ?_, fun s s0 s1 => ?_⟩
    · refine rh1.of (rX32_keep_232 hm _ _ _ _ _ _ _ ?_)
      rw [h]
      refine ⟨⟨by omega, by omega⟩, fun _ => ⟨⟨by omega, by omega⟩, ?_⟩, fun z => by omega⟩
      (intro zq hzq; replace hzq := hzq.symm; subst hzq)
      exact ⟨⟨by omega, by omega⟩, ⟨by omega, by omega⟩, rh1.s E HP⟩
    · by_cases e : s = t
      · rw [e, v2 t (by omega) (by omega), rh_set_s]
      · rw [v1 s (by omega) (by omega), rh_set_a (by decide)]
    · rw [v2 s (by omega) (by omega), rh_set_j (by omega)]
/-- the model keeps a word -/
theorem m_keepW (hm : rh_ms wm) {r d i : Int} (hr : 0 ≤ r ∧ r < 4) (hd : 0 ≤ d ∧ d < 12) (hi : 0 ≤ i ∧ i < 80) (B : rhM) (h4 : i < B 114 r) (W : 1 ≤ wsz B (80 * r + i) ∧ wsz B (80 * r + i) ≤ 12) (h5 : 0 ≤ B 125 (4 * (80 * r + i) + 1) ∧ B 125 (4 * (80 * r + i) + 1) ≤ 12 ∨ ¬ ((1 < B 121 (80 * r + i)) ∧ (B 122 (80 * r + i) < 64))) :
    ∃ B', eS wm YX32_keep 2 77 [(0, 2, 0), (1, 0, r), (2, 0, d), (3, 0, i)] [] B 77 [(0, 2, 0), (1, 0, r), (2, 0, d), (3, 0, i + 1)] [] B' ∧ frx (fun c j => (c = 149 ∨ c = 151 ∨ c = 153) ∧ j = 80 * d + i ∨ (c = 150 ∨ c = 152) ∧ 12 * (80 * d + i) ≤ j ∧ j < 12 * (80 * d + i) + 12) B B' ∧ B' 149 (80 * d + i) = wsz B (80 * r + i) ∧ (∀ s, 0 ≤ s → s < wsz B (80 * r + i) → B' 150 (12 * (80 * d + i) + s) = wch B (80 * r + i) s) ∧ B' 151 (80 * d + i) = rh_if ((1 < B 121 (80 * r + i)) ∧ (B 122 (80 * r + i) < 64)) (B 125 (4 * (80 * r + i) + 1)) 0 ∧ B' 153 (80 * d + i) = B 122 (80 * r + i) ∧ ∀ s, 0 ≤ s → s < B' 151 (80 * d + i) → B' 152 (12 * (80 * d + i) + s) = B 126 (12 * (4 * (80 * r + i) + 1) + s) := by
  obtain ⟨n, hn⟩ : ∃ n, wsz B (80 * r + i) = n := ⟨_, rfl⟩
  rw [hn] at W
  have f1 : frx (fun c j => c = 149 ∧ j = 80 * d + i) B (rh_set B 149 (80 * d + i) n) := frx.rf.st (by omega)
  have w1 := wsz_f f1 (fun c j c0 c1 => by omega) (80 * r + i)
  obtain ⟨B2, E2, F2, v2, -⟩ := m_keepT hm (r := r) (d := d) (i := i) (n := n) hr hd hi ⟨by omega, by omega⟩ n.toNat 0 (rh_set B 149 (80 * d + i) n) (by omega) (by decide) (rh_set_s _ _ _ _)
  have g2 : frx (fun c j => c = 149 ∧ j = 80 * d + i ∨ c = 150 ∧ 12 * (80 * d + i) ≤ j ∧ j < 12 * (80 * d + i) + 12) B B2 := (f1.w (fun c j h => .inl h)).tr (F2.w (fun c j h => .inr h))
  have e121 : B2 121 (80 * r + i) = B 121 (80 * r + i) := g2 _ _ (by omega)
  have e122 : B2 122 (80 * r + i) = B 122 (80 * r + i) := g2 _ _ (by omega)
  have e125 : B2 125 (4 * (80 * r + i) + 1) = B 125 (4 * (80 * r + i) + 1) := g2 _ _ (by omega)
  obtain ⟨m, hm'⟩ : ∃ m, m = rh_if ((1 < B 121 (80 * r + i)) ∧ (B 122 (80 * r + i) < 64)) (B 125 (4 * (80 * r + i) + 1)) 0 := ⟨_, rfl⟩
  have mb : 0 ≤ m ∧ m ≤ 12 := by
    rw [hm']
    by_cases q : (1 < B 121 (80 * r + i)) ∧ (B 122 (80 * r + i) < 64)
    · rw [rh_if_t q]
      rcases h5 with h | h
      · exact h
      · exact absurd q h
    · rw [rh_if_f q]; decide
  obtain ⟨B3, hB3⟩ : ∃ B3, B3 = rh_set (rh_set B2 151 (80 * d + i) m) 153 (80 * d + i) (B 122 (80 * r + i)) := ⟨_, rfl⟩
  have f3 : frx (fun c j => (c = 151 ∨ c = 153) ∧ j = 80 * d + i) B2 B3 := by rw [hB3]; exact (frx.rf.st (by omega)).st (by omega)
  obtain ⟨B4, E4, F4, v4, -⟩ := m_keepE hm (r := r) (d := d) (i := i) (n := m) hr hd hi ⟨by omega, by omega⟩ m.toNat 0 B3 (by omega) (by decide) (by rw [hB3, rh_set_a (by decide), rh_set_s])
  have z149 : B4 149 (80 * d + i) = n := by rw [F4 _ _ (by omega), f3 _ _ (by omega), F2 _ _ (by omega), rh_set_s]
  have z151 : B4 151 (80 * d + i) = m := by rw [F4 _ _ (by omega), hB3, rh_set_a (by decide), rh_set_s]
  refine ⟨B4, eS.of (fun P HP => ?_), ?_, by rw [hn]; exact z149, fun s s0 s1 => ?_, by rw [z151]; exact hm', ?_, fun s s0 s1 => ?_⟩
  · refine rh1.of (rX32_keep_77 hm _ _ _ _ ?_)
    refine ⟨⟨by omega, by omega⟩, fun _ => ⟨⟨by omega, by omega⟩, ⟨by omega, by omega⟩, ⟨by omega, by omega⟩, fun _ => ⟨by omega, by omega⟩, fun _ => ⟨by omega, by omega⟩, ?_⟩, fun z => absurd h4 z⟩
    intro y hy
    have ey : y = n := by rw [hy, ← hn]; rfl
    rw [ey]
    refine ⟨⟨by omega, by omega⟩, rh1.s E2 ?_⟩
    refine rh1.of (rX32_keep_119 hm _ _ _ _ _ _ _ ?_)
    rw [show B2 149 (80 * d + i) = n by rw [F2 _ _ (by omega), rh_set_s]]
    refine ⟨⟨by omega, by omega⟩, fun z => by omega, fun _ => ⟨⟨by omega, by omega⟩, fun _ => ⟨by omega, by omega⟩, ?_⟩⟩
    rw [e121, e122]
    intro y1 hy1
    refine ⟨fun _ => ⟨by omega, by omega⟩, ?_⟩
    rw [e125]
    intro y2 hy2
    have e2 : y2 = m := by
      rw [hy2, hm', hy1]
      by_cases q : (1 < B 121 (80 * r + i)) ∧ (B 122 (80 * r + i) < 64)
      · rw [rh_if_t q, rh_if_t q, rh_if_t (by decide)]
      · rw [rh_if_f q, rh_if_f q, rh_if_f (by decide)]
    rw [e2]
    refine ⟨⟨by omega, by omega⟩, ⟨by omega, by omega⟩, ?_⟩
    rw [rh_set_a (by decide), e122]
    (intro zq hzq; replace hzq := hzq.symm; subst hzq)
    rw [← hB3]
    refine ⟨⟨by omega, by omega⟩, rh1.s E4 ?_⟩
    refine rh1.of (rX32_keep_232 hm _ _ _ _ _ _ _ ?_)
    rw [z151]
    exact ⟨⟨by omega, by omega⟩, fun z => by omega, fun _ => ⟨⟨by omega, by omega⟩, HP⟩⟩
  · exact ((g2.w (fun c j h => by omega)).tr (f3.w (fun c j h => by omega))).tr (F4.w (fun c j h => by omega))
  · rw [hn] at s1
    rw [F4 _ _ (by omega), f3 _ _ (by omega), v2 s s0 s1, w1.2]
  · rw [F4 _ _ (by omega), hB3, rh_set_s]
  · rw [z151] at s1
    rw [v4 s s0 s1, f3 _ _ (by omega), g2 _ _ (by omega)]
def Fdw (x i c j : Int) : Prop := ((c = x + 2 ∨ c = x + 5) ∧ 12 * i ≤ j ∧ j < 12 * i + 12) ∨ ((c = x + 3 ∨ c = x + 6 ∨ c = x + 7) ∧ j = i)
/-- the house keeps a word -/
theorem h_keepW (hh : rh_hs wh) {A B : rhM} (R : RdA A B) (Q : RdB A B) (C : RdC A B) {r i s : Int} (hr : 0 ≤ r ∧ r < 4) (hw : B 113 r ≠ 0) (hi : 0 ≤ i ∧ i < B 114 r) (hs : 0 ≤ s ∧ s < 12) (hx1 : A (106 + 8 * s) 1 = B 114 r) :
    ∃ A', eS wh YX22_take 2 15 [(0, 2, 106 + 8 * s), (1, 2, 563 + 18 * r), (3, 0, i)] [] A 15 [(0, 2, 106 + 8 * s), (1, 2, 563 + 18 * r), (3, 0, i + 1)] [] A' ∧ frx (Fdw (106 + 8 * s) i) A A' ∧ A' (106 + 8 * s + 3) i = wsz B (80 * r + i) ∧ (∀ t, 0 ≤ t → t < wsz B (80 * r + i) → A' (106 + 8 * s + 2) (12 * i + t) = wch B (80 * r + i) t) ∧ (B 122 (80 * r + i) < 64 → 1 < B 121 (80 * r + i) ∧ A' (106 + 8 * s + 6) i = B 125 (4 * (80 * r + i) + 1) ∧ (1 ≤ B 125 (4 * (80 * r + i) + 1) ∧ B 125 (4 * (80 * r + i) + 1) ≤ 12) ∧ (∀ t, 0 ≤ t → t < B 125 (4 * (80 * r + i) + 1) → A' (106 + 8 * s + 5) (12 * i + t) = B 126 (12 * (4 * (80 * r + i) + 1) + t) ∧ 33 ≤ B 126 (12 * (4 * (80 * r + i) + 1) + t) ∧ B 126 (12 * (4 * (80 * r + i) + 1) + t) ≤ 126) ∧ A' (106 + 8 * s + 7) i = B 122 (80 * r + i) ∧ 0 ≤ B 122 (80 * r + i)) ∧ (¬ B 122 (80 * r + i) < 64 → A' (106 + 8 * s + 6) i = 0) := by
  have hdc := hs_dc hh hs.1 hs.2
  obtain ⟨hT, hO⟩ := hs_dcR hh hs.1 hs.2
  have hrd := hs_rd hh hr.1 hr.2
  have hTx := (hs_rdR hh hr.1 hr.2).1
  obtain ⟨b1, b2, b3⟩ := (R r hr.1 hr.2).2 hw
  obtain ⟨xr, a, m, hb, xb, ab, hxe, hae, sz, tx⟩ := h_row hh R Q C hr hw hi
  have Wd := Wds.of R C hr.1 hr.2 hw i hi.1 hi.2
  have K1 := c_copy hh (i := i) (j := a) hT hb ⟨by omega, by omega⟩ ⟨ab.1, ab.2.1⟩ A (by rw [sz]; have := Wd.1; exact ⟨by omega, by omega⟩) (by omega)
  obtain ⟨A1, hA1⟩ : ∃ A1, A1 = rh_set (rh_cpy A (xr + 1) (12 * a) (106 + 8 * s + 1 + 1) (12 * i) 12) (106 + 8 * s + 1 + 2) i (A (xr + 2) a) := ⟨_, rfl⟩
  rw [← hA1] at K1
  have f1 : frx (fun c j => (c = 106 + 8 * s + 2 ∧ 12 * i ≤ j ∧ j < 12 * i + 12) ∨ (c = 106 + 8 * s + 3 ∧ j = i)) A A1 := by
    rw [hA1]
    exact (frx.rf.cpy (fun j j0 j1 => by omega)).st (by omega)
  have v3 : A1 (106 + 8 * s + 3) i = wsz B (80 * r + i) := by
    rw [hA1, show 106 + 8 * s + 1 + 2 = 106 + 8 * s + 3 by omega, rh_set_s]
    exact sz
  have v2 : ∀ t, 0 ≤ t → t < wsz B (80 * r + i) → A1 (106 + 8 * s + 2) (12 * i + t) = wch B (80 * r + i) t := fun t t0 t1 => by
    have := Wd.1
    rw [hA1, rh_set_a (by omega), show 106 + 8 * s + 1 + 1 = 106 + 8 * s + 2 by omega, rh_cpy_v ⟨by omega, by omega⟩, show 12 * a + (12 * i + t - 12 * i) = 12 * a + t by omega]
    exact tx t t0 t1
  obtain ⟨R1, Q1, C1⟩ := Rd.fx (M' := A1) (M2' := B) R Q C (fun c j c0 _ => f1 c j (by omega)) (fun c j _ _ => rfl)
  have W1 := ((R1 r hr.1 hr.2).2 hw).2.2 i hi.1 hi.2
  have X1 := Q1 r hr.1 hr.2 hw i hi.1 hi.2
  have KM := c_margin hh hrd ⟨by omega, by omega⟩ W1 X1
  obtain ⟨m1, hm1⟩ : ∃ m1, B 122 (80 * r + i) = m1 := ⟨_, rfl⟩
  rw [hm1] at KM
  have ch := W1.1
  have two := W1.2.1
  have mg := X1.2.2.2.2.1
  obtain ⟨A2, hA2⟩ : ∃ A2, A2 = rh_set A1 (106 + 8 * s + 6) i 0 := ⟨_, rfl⟩
  have f2 : frx (fun c j => c = 106 + 8 * s + 6 ∧ j = i) A1 A2 := by rw [hA2]; exact frx.rf.st (by omega)
  have start : ∀ P : Int → rhM → Prop, rh1 wh YX22_take 2 46 [(0, 2, 106 + 8 * s), (1, 2, 563 + 18 * r), (3, 0, i)] [(0, m1)] A1 P → rh1 wh YX22_take 2 15 [(0, 2, 106 + 8 * s), (1, 2, 563 + 18 * r), (3, 0, i)] [] A P := fun P HP => by
    refine rh1.of (rX22_take_15 hh _ _ _ _ hdc hrd ?_)
    rw [hx1, ← hxe, ← hae]
    refine ⟨fun _ => ⟨⟨by omega, by omega⟩, ⟨by omega, by omega⟩, ?_, ?_⟩, fun z => by omega⟩
    · rw [hae]
      by_cases q : A (563 + 18 * r + 11) i = 1
      · rw [rh_if_t q]; exact ⟨by omega, by omega⟩
      · rw [rh_if_f q]; exact ⟨by omega, by omega⟩
    refine rh1.s (vX22_take_38 hT K1 (LE0 rfl)) ?_
    refine rh1.of (rX22_take_41 hh _ _ _ _ hdc hrd ?_)
    exact rh1.s (vX22_take_43 hrd KM (LE0 rfl)) HP
  rw [hm1]
  rw [hm1] at mg
  by_cases q : m1 < 64
  · have q1 : ¬ (B 123 (80 * r + i) = 1 ∨ B 121 (80 * r + i) = 1) := fun z => by
      rw [rh_if_t z] at mg
      omega
    have c1 : 1 < B 121 (80 * r + i) := by
      have : B 121 (80 * r + i) ≠ 1 := fun z => q1 (.inr z)
      omega
    rw [rh_if_f q1] at mg
    obtain ⟨s1, g1, g2⟩ := two 1 (by decide) c1
    obtain ⟨s0, -, -⟩ := two 0 (by decide) (by omega)
    have K2 := c_copy hh (i := i) (j := 4 * i + 1) hO hTx ⟨by omega, by omega⟩ ⟨by omega, by omega⟩ A2 (by
      rw [show 563 + 18 * r + 3 + 2 = 563 + 18 * r + 5 by omega, f2 _ _ (by omega), g1.1]
      have := g1.2
      exact ⟨by omega, by omega⟩) (by omega)
    obtain ⟨A3, hA3⟩ : ∃ A3, A3 = rh_set (rh_cpy A2 (563 + 18 * r + 3 + 1) (12 * (4 * i + 1)) (106 + 8 * s + 4 + 1) (12 * i) 12) (106 + 8 * s + 4 + 2) i (A2 (563 + 18 * r + 3 + 2) (4 * i + 1)) := ⟨_, rfl⟩
    rw [← hA3] at K2
    have f3 : frx (fun c j => (c = 106 + 8 * s + 5 ∧ 12 * i ≤ j ∧ j < 12 * i + 12) ∨ (c = 106 + 8 * s + 6 ∧ j = i)) A2 A3 := by
      rw [hA3]
      exact (frx.rf.cpy (fun j j0 j1 => by omega)).st (by omega)
    refine ⟨rh_set A3 (106 + 8 * s + 7) i m1, eS.of (fun P HP => start P ?_), ?_, ?_, fun t t0 t1 => ?_, fun _ => ⟨c1, ?_, g1.2, fun t t0 t1 => ⟨?_, (g2 t t0 t1).2⟩, rh_set_s _ _ _ _, ?_⟩, fun z => absurd q z⟩
    · refine rh1.of (rX22_take_46 hh _ _ _ _ _ hdc hrd ?_)
      rw [← hA2]
      refine ⟨⟨by omega, by omega⟩, ⟨by omega, by omega⟩, fun _ => ?_, fun z => absurd q z⟩
      refine rh1.s (eS.fx 0 (x := 4 * i + 1) rfl ⟨by omega, by omega⟩ rfl) ?_
      refine rh1.s (vX22_take_79 hO K2 (LE0 rfl)) ?_
      refine rh1.of (rX22_take_82 hh _ _ _ _ _ hdc hrd ?_)
      exact ⟨⟨by omega, by omega⟩, ⟨by omega, by omega⟩, HP⟩
    · exact (((f1.w (fun c j h => by unfold Fdw; omega)).tr (f2.w (fun c j h => by unfold Fdw; omega))).tr (f3.w (fun c j h => by unfold Fdw; omega))).st (by unfold Fdw; omega)
    · rw [rh_set_a (by omega), f3 _ _ (by omega), f2 _ _ (by omega)]; exact v3
    · rw [rh_set_a (by omega), f3 _ _ (by omega), f2 _ _ (by omega)]; exact v2 t t0 t1
    · rw [rh_set_a (by omega), hA3, show 106 + 8 * s + 4 + 2 = 106 + 8 * s + 6 by omega, rh_set_s, show 563 + 18 * r + 3 + 2 = 563 + 18 * r + 5 by omega, f2 _ _ (by omega)]
      exact g1.1
    · rw [rh_set_a (by omega), hA3, rh_set_a (by omega), show 106 + 8 * s + 4 + 1 = 106 + 8 * s + 5 by omega, rh_cpy_v ⟨by omega, by omega⟩, show 12 * (4 * i + 1) + (12 * i + t - 12 * i) = 12 * (4 * i + 1) + t by omega, show 563 + 18 * r + 3 + 1 = 563 + 18 * r + 4 by omega, f2 _ _ (by omega)]
      exact (g2 t t0 t1).1
    · have := (C r hr.1 hr.2 hw i hi.1 hi.2).1.2
      rw [hm1] at this
      exact this
  · refine ⟨A2, eS.of (fun P HP => start P ?_), ?_, ?_, fun t t0 t1 => ?_, fun z => absurd z q, fun _ => by rw [hA2, rh_set_s]⟩
    · refine rh1.of (rX22_take_46 hh _ _ _ _ _ hdc hrd ?_)
      rw [← hA2]
      exact ⟨⟨by omega, by omega⟩, ⟨by omega, by omega⟩, fun z => absurd z q, fun _ => ⟨⟨by omega, by omega⟩, HP⟩⟩
    · exact (f1.w (fun c j h => by unfold Fdw; omega)).tr (f2.w (fun c j h => by unfold Fdw; omega))
    · rw [f2 _ _ (by omega)]; exact v3
    · rw [f2 _ _ (by omega)]; exact v2 t t0 t1
theorem Dcw.fx {A B A' B' : rhM} {x k i : Int} (D : Dcw A B x k i) (f : ∀ c j, x + 2 ≤ c → c ≤ x + 7 → ((c = x + 2 ∨ c = x + 5) → 12 * i ≤ j ∧ j < 12 * i + 12) → ((c = x + 3 ∨ c = x + 6 ∨ c = x + 7) → j = i) → A' c j = A c j) (g : ∀ c j, 149 ≤ c → c ≤ 153 → ((c = 150 ∨ c = 152) → 12 * (80 * k + i) ≤ j ∧ j < 12 * (80 * k + i) + 12) → ((c = 149 ∨ c = 151 ∨ c = 153) → j = 80 * k + i) → B' c j = B c j) : Dcw A' B' x k i := by
  obtain ⟨d1, d2, d3, d4, d5⟩ := D
  have e149 := g 149 (80 * k + i) (by decide) (by decide) (fun z => by omega) (fun _ => rfl)
  have e151 := g 151 (80 * k + i) (by decide) (by decide) (fun z => by omega) (fun _ => rfl)
  have e153 := g 153 (80 * k + i) (by decide) (by decide) (fun z => by omega) (fun _ => rfl)
  have x3 := f (x + 3) i (by omega) (by omega) (fun z => by omega) (fun _ => rfl)
  have x6 := f (x + 6) i (by omega) (by omega) (fun z => by omega) (fun _ => rfl)
  have x7 := f (x + 7) i (by omega) (by omega) (fun z => by omega) (fun _ => rfl)
  unfold Dcw
  rw [e149, e151, e153, x3, x6, x7]
  refine ⟨d1, fun t t0 t1 => ?_, d3, fun t t0 t1 => ?_, d5⟩
  · rw [f (x + 2) _ (by omega) (by omega) (fun _ => ⟨by omega, by omega⟩) (fun z => by omega), g 150 _ (by decide) (by decide) (fun _ => ⟨by omega, by omega⟩) (fun z => by omega)]
    exact d2 t t0 t1
  · rw [f (x + 5) _ (by omega) (by omega) (fun _ => ⟨by omega, by omega⟩) (fun z => by omega), g 152 _ (by decide) (by decide) (fun _ => ⟨by omega, by omega⟩) (fun z => by omega)]
    exact d4 t t0 t1
def Fdm (d c j : Int) : Prop := ((c = 149 ∨ c = 151 ∨ c = 153) ∧ 80 * d ≤ j ∧ j < 80 * d + 80) ∨ ((c = 150 ∨ c = 152) ∧ 960 * d ≤ j ∧ j < 960 * d + 960)
theorem t_keep (hh : rh_hs wh) (hm : rh_ms wm) {r s d N : Int} (hr : 0 ≤ r ∧ r < 4) (hs : 0 ≤ s ∧ s < 12) (hd : 0 ≤ d ∧ d < 12) (hN : N ≤ 80) : ∀ (u : Nat) (i : Int) (A B : rhM), i + u = N → 0 ≤ i → (RdA A B ∧ RdB A B ∧ RdC A B) → B 113 r ≠ 0 → B 114 r = N → A (106 + 8 * s) 1 = N → (∀ k, 0 ≤ k → k < i → Dcw A B (106 + 8 * s) d k) → ∃ A' B', eS wh YX22_take 2 15 [(0, 2, 106 + 8 * s), (1, 2, 563 + 18 * r), (3, 0, i)] [] A 15 [(0, 2, 106 + 8 * s), (1, 2, 563 + 18 * r), (3, 0, N)] [] A' ∧ eS wm YX32_keep 2 77 [(0, 2, 0), (1, 0, r), (2, 0, d), (3, 0, i)] [] B 77 [(0, 2, 0), (1, 0, r), (2, 0, d), (3, 0, N)] [] B' ∧ (∀ k, 0 ≤ k → k < N → Dcw A' B' (106 + 8 * s) d k) ∧ frx (fun c _ => 106 + 8 * s + 2 ≤ c ∧ c ≤ 106 + 8 * s + 7) A A' ∧ frx (Fdm d) B B' := by
  intro u
  induction u with
  | zero =>
    intro i A B hi i0 RR h3 h4 hx D
    have e : i = N := by omega
    subst e
    exact ⟨A, B, eS.rf, eS.rf, D, frx.rf, frx.rf⟩
  | succ u ih =>
    intro i A B hi i0 RR h3 h4 hx D
    obtain ⟨R, Q, C⟩ := RR
    obtain ⟨W1, W2⟩ := Wds.of R C hr.1 hr.2 h3 i i0 (by omega)
    obtain ⟨A1, E1, f1, a1, a2, a3, a4⟩ := h_keepW hh R Q C (r := r) (i := i) (s := s) hr h3 ⟨i0, by omega⟩ hs (by rw [hx, h4])
    obtain ⟨B1, F1, g1, b1, b2, b3, b4, b5⟩ := m_keepW hm (r := r) (d := d) (i := i) hr hd ⟨by omega, by omega⟩ B (by omega) W1 (by
      by_cases q : B 122 (80 * r + i) < 64
      · have := (a3 q).2.2.1
        exact .inl ⟨by omega, by omega⟩
      · exact .inr (fun z => q z.2))
    have RR1 := Rd.fx (M' := A1) (M2' := B1) R Q C (fun c j c0 _ => f1 c j (by unfold Fdw; omega)) (fun c j c0 c1 => g1 c j (by omega))
    have D1 : ∀ k, 0 ≤ k → k < i + 1 → Dcw A1 B1 (106 + 8 * s) d k := fun k k0 k1 => by
      by_cases e : k = i
      · subst e
        refine ⟨⟨by rw [a1, b1], by rw [b1]; exact W1⟩, fun t t0 t1 => ?_, ?_, fun t t0 t1 => ?_, fun z => ?_⟩
        · rw [b1] at t1
          rw [a2 t t0 t1, b2 t t0 t1]
          exact ⟨rfl, W2 t t0 t1⟩
        · rw [b3]
          by_cases q : B 122 (80 * r + k) < 64
          · obtain ⟨q1, q2, q3, -⟩ := a3 q
            rw [rh_if_t ⟨q1, q⟩]
            exact ⟨q2, ⟨by omega, by omega⟩⟩
          · rw [rh_if_f (fun z => q z.2)]
            exact ⟨a4 q, by decide⟩
        · rw [b5 t t0 t1]
          rw [b3] at t1
          by_cases q : B 122 (80 * r + k) < 64
          · obtain ⟨q1, q2, q3, q4, -⟩ := a3 q
            rw [rh_if_t ⟨q1, q⟩] at t1
            exact q4 t t0 t1
          · rw [rh_if_f (fun z => q z.2)] at t1
            omega
        · rw [b3] at z
          by_cases q : B 122 (80 * r + k) < 64
          · obtain ⟨-, -, -, -, q5, q6⟩ := a3 q
            rw [b4]
            exact ⟨q5, ⟨by omega, by omega⟩⟩
          · rw [rh_if_f (fun z => q z.2)] at z
            omega
      · exact (D k k0 (by omega)).fx (fun c j c0 c1 h1 h2 => f1 c j (by unfold Fdw; omega)) (fun c j c0 c1 h1 h2 => g1 c j (by omega))
    obtain ⟨A2, B2, E2, F2, D2, f2, g2⟩ := ih (i + 1) A1 B1 (by omega) (by omega) RR1 (by rw [g1 113 _ (by omega)]; exact h3) (by rw [g1 114 _ (by omega)]; exact h4) (by rw [f1 _ _ (by unfold Fdw; omega)]; exact hx) D1
    exact ⟨A2, B2, E1.tr E2, F1.tr F2, D2, (f1.w (fun c j h => by unfold Fdw at h; omega)).tr f2, (g1.w (fun c j h => by unfold Fdm; omega)).tr g2⟩
def Fkp (c j : Int) : Prop := (c = 98 ∧ (j = 1 ∨ j = 2)) ∨ (106 ≤ c ∧ c ≤ 201)
def Gkp (c j : Int) : Prop := (c = 0 ∧ (j = 0 ∨ j = 186 ∨ j = 187)) ∨ (147 ≤ c ∧ c ≤ 153)
theorem Dcr.fx {A B A' B' : rhM} {x k : Int} (D : Dcr A B x k) (f : ∀ c j, x ≤ c → c ≤ x + 7 → A' c j = A c j) (g7 : B' 147 k = B 147 k) (g8 : B' 148 k = B 148 k) (g : ∀ c j, 149 ≤ c → c ≤ 153 → ((c = 150 ∨ c = 152) → 960 * k ≤ j ∧ j < 960 * k + 960) → ((c = 149 ∨ c = 151 ∨ c = 153) → 80 * k ≤ j ∧ j < 80 * k + 80) → B' c j = B c j) : Dcr A' B' x k := by
  obtain ⟨d1, d2, d3, d4⟩ := D
  unfold Dcr
  rw [f x 0 (by omega) (by omega), f x 1 (by omega) (by omega), g7, g8]
  refine ⟨d1, d2, d3, fun i i0 i1 => (d4 i i0 i1).fx (fun c j c0 c1 _ _ => f c j (by omega) (by omega)) (fun c j c0 c1 h1 h2 => g c j c0 c1 (fun z => ?_) (fun z => ?_))⟩
  · have := h1 z
    omega
  · have := h2 z
    omega
theorem op_keep (hh : rh_hs wh) (hm : rh_ms wm) {Mh Mm : rhM} {N : Int} (R : RdA Mh Mm) (Q : RdB Mh Mm) (C : RdC Mh Mm) (D : Rar Mh Mm N) (hN : 0 ≤ N ∧ N ≤ 1000000) (x1 : Int) : rC2 wh YX1_keep 4 [(2, 0), (0, x1)] Mh wm YX32_keep 2 [(2, 0), (0, x1)] Mm (fun r M' r2 M2' => r = r2 ∧ Rar M' M2' (N + 1) ∧ frx Fkp Mh M' ∧ frx Gkp Mm M2') := by
  refine rC2.of (by decide) (LE0 rfl) (by decide) (LE0 rfl) ?_
  have is := R.is x1
  have DD := D
  obtain ⟨d1, d2, ⟨s, d3, d4⟩, d5, d6⟩ := D
  obtain ⟨M0, hM0⟩ : ∃ M0, M0 = rh_set Mm 0 0 0 := ⟨_, rfl⟩
  have en : ∀ c k, 0 < c → M0 c k = Mm c k := fun c k h => by rw [hM0]; exact rh_set_a (by omega)
  have g0 : frx Gkp Mm M0 := by rw [hM0]; exact frx.rf.st (by unfold Gkp; omega)
  have e6 : M0 0 186 = Mm 0 186 := by rw [hM0]; exact rh_set_j (by decide)
  have e7 : M0 0 187 = Mm 0 187 := by rw [hM0]; exact rh_set_j (by decide)
  have D0 : Rar Mh M0 (N + 1) := by
    refine ⟨by rw [e6]; exact d1, by rw [e7]; omega, ⟨s, d3, d4⟩, fun k k0 k1 => ?_, fun j k j0 j1 k0 k1 h => ?_⟩
    · rw [e6] at k1
      rw [en 147 _ (by decide), e7]
      exact ⟨(d5 k k0 k1).1.fx (fun c j _ _ => rfl) (en 147 k (by decide)) (en 148 k (by decide)) (fun c j c0 _ _ _ => en c j (by omega)), (d5 k k0 k1).2⟩
    · rw [e6] at j1 k1
      rw [en 147 _ (by decide), en 147 _ (by decide)] at h
      exact d6 j k j0 j1 k0 k1 h
  refine rh2.l (rX1_keep_0 hh _ _ ?_)
  refine ⟨⟨by omega, by omega⟩, fun _ => ⟨by omega, by omega⟩, fun c => ?_, fun c => ⟨fun e => ?_, fun e => ⟨?_, ?_⟩⟩⟩
  · refine rh1.of (rX32_keep_0 hm _ _ ?_)
    rw [← hM0, en 113 _ (by decide)]
    exact ⟨fun _ => ⟨by omega, by omega⟩, fun _ => ⟨rfl, D0, frx.rf, g0⟩, fun z => absurd (fun y => c (is.mpr y)) z⟩
  · have c' := is.mp (Classical.byContradiction c)
    rw [d1.1] at e
    refine rh1.of (rX32_keep_0 hm _ _ ?_)
    rw [← hM0, en 113 _ (by decide), e6]
    exact ⟨fun _ => ⟨by omega, by omega⟩, fun z => absurd c' z, fun _ => ⟨fun _ => ⟨rfl, D0, frx.rf, g0⟩, fun z => absurd e z⟩⟩
  · have c' := is.mp (Classical.byContradiction c)
    exact ⟨by omega, by omega⟩
  have c' := is.mp (Classical.byContradiction c)
  rw [d1.1] at e
  obtain ⟨n, hn⟩ : ∃ n, Mm 0 186 = n := ⟨_, rfl⟩
  obtain ⟨q, hq⟩ : ∃ q, Mm 0 187 = q := ⟨_, rfl⟩
  rw [hn] at e d1 e6
  rw [hq] at d2 e7
  have n12 : 0 ≤ n ∧ n < 12 := by omega
  obtain ⟨sb, s9⟩ := d3 n n12.1 n12.2
  have hdc := hs_dc hh sb.1 sb.2
  have hrd := hs_rd hh (show 0 ≤ x1 by omega) (show x1 < 4 by omega)
  obtain ⟨b1, b2, b3⟩ := (R x1 (by omega) (by omega)).2 c'.2
  obtain ⟨nw, hnw⟩ : ∃ nw, Mm 114 x1 = nw := ⟨_, rfl⟩
  rw [hnw] at b1 b2
  obtain ⟨A0, hA0⟩ : ∃ A0, A0 = rh_set (rh_set Mh (106 + 8 * s n) 0 q) (106 + 8 * s n) 1 nw := ⟨_, rfl⟩
  have fA0 : frx (fun c j => c = 106 + 8 * s n) Mh A0 := by rw [hA0]; exact (frx.rf.st (F := fun c j => c = 106 + 8 * s n) rfl).st rfl
  obtain ⟨B0, hB0⟩ : ∃ B0, B0 = rh_set (rh_set (rh_set (rh_set M0 0 186 (n + 1)) 147 n q) 0 187 (q + 1)) 148 n nw := ⟨_, rfl⟩
  have gB0 : frx (fun c j => (c = 0 ∧ (j = 186 ∨ j = 187)) ∨ ((c = 147 ∨ c = 148) ∧ j = n)) M0 B0 := by
    rw [hB0]
    exact (((frx.rf.st (by omega)).st (by omega)).st (by omega)).st (by omega)
  have RR := Rd.fx (M' := A0) (M2' := B0) R Q C (fun c j c0 _ => fA0 c j (by omega)) (fun c j c0 c1 => by rw [gB0 c j (by omega)]; exact en c j (by omega))
  obtain ⟨A1, B1, E1, E2, DW, f1, g1⟩ := t_keep hh hm (r := x1) (s := s n) (d := n) (N := nw) ⟨by omega, by omega⟩ sb n12 b2.2 nw.toNat 0 A0 B0 (by omega) (by decide) RR (by rw [gB0 _ _ (by omega), en 113 _ (by decide)]; exact c'.2) (by rw [gB0 _ _ (by omega), en 114 _ (by decide)]; exact hnw) (by rw [hA0, rh_set_s]) (fun k k0 k1 => by omega)
  have x1n : A1 (106 + 8 * s n) 1 = nw := by rw [f1 _ _ (by omega), hA0, rh_set_s]
  have KT : eC wh YX22_take 2 [(2, 106 + 8 * s n), (2, 563 + 18 * x1), (0, q)] Mh 0 A1 := eC.of1 (rC1.of (by decide) (LE0 rfl) (by
    refine rh1.of (rX22_take_0 hh _ _ _ _ hdc hrd ?_)
    rw [rh_set_a (by omega), b1]
    (intro zq hzq; replace hzq := hzq.symm; subst hzq)
    rw [← hA0]
    refine rh1.s E1 ?_
    refine rh1.of (rX22_take_15 hh _ _ _ _ hdc hrd ?_)
    rw [x1n]
    exact ⟨fun z => by omega, fun _ => ⟨rfl, rfl⟩⟩))
  obtain ⟨A2, hA2⟩ : ∃ A2, A2 = rh_set (rh_set A1 98 1 (n + 1)) 98 2 (q + 1) := ⟨_, rfl⟩
  have a981 : A1 98 1 = n := by rw [f1 _ _ (by omega), fA0 _ _ (by omega)]; exact d1.1
  have a982 : A1 98 2 = q := by rw [f1 _ _ (by omega), fA0 _ _ (by omega)]; exact d2.1
  have KA : eC wh YX21_keep 3 [(2, 98), (2, 563 + 18 * x1)] Mh q A2 := eC.of1 (rC1.of (by decide) (LE0 rfl) (by
    refine rh1.of (rX21_keep_0 hh _ _ hrd ?_)
    rw [d1.1, d2.1, s9]
    refine ⟨⟨by omega, by omega⟩, ?_⟩
    refine rh1.s (vX21_keep_14 hdc KT (LE0 rfl)) ?_
    refine rh1.of (rX21_keep_17 hh _ ?_)
    rw [a981]
    refine ⟨⟨by omega, by omega⟩, ?_⟩
    (intro zq hzq; replace hzq := hzq.symm; subst hzq)
    rw [rh_set_j (by decide), a982]
    refine ⟨⟨by omega, by omega⟩, ?_⟩
    (intro zq hzq; replace hzq := hzq.symm; subst hzq)
    rw [rh_set_s]
    exact ⟨⟨by omega, by omega⟩, by omega, hA2.symm⟩))
  have fA2 : frx Fkp Mh A2 := by
    rw [hA2]
    exact (((fA0.w (fun c j h => by unfold Fkp; omega)).tr (f1.w (fun c j h => by unfold Fkp; omega))).st (by unfold Fkp; omega)).st (by unfold Fkp; omega)
  have e147 : B1 147 n = q := by rw [g1 _ _ (by unfold Fdm; omega), hB0, rh_set_a (by decide), rh_set_a (by decide), rh_set_s]
  have e148 : B1 148 n = nw := by rw [g1 _ _ (by unfold Fdm; omega), hB0, rh_set_s]
  have e186 : B1 0 186 = n + 1 := by rw [g1 _ _ (by unfold Fdm; omega), hB0, rh_set_a (by decide), rh_set_j (by decide), rh_set_a (by decide), rh_set_s]
  have e187 : B1 0 187 = q + 1 := by rw [g1 _ _ (by unfold Fdm; omega), hB0, rh_set_a (by decide), rh_set_s]
  have gB1 : frx Gkp Mm B1 := (g0.tr (gB0.w (fun c j h => by unfold Gkp; omega))).tr (g1.w (fun c j h => by unfold Fdm at h; unfold Gkp; omega))
  have o147 : ∀ k, k ≠ n → B1 147 k = Mm 147 k := fun k hk => by rw [g1 _ _ (by unfold Fdm; omega), gB0 _ _ (by omega)]; exact en 147 k (by decide)
  refine rh2.sl (vX1_keep_40 hh KA (LE0 rfl)) ?_
  refine rh2.l (rX1_keep_43 hh _ _ ?_)
  refine rh1.of (rX32_keep_0 hm _ _ ?_)
  rw [← hM0, en 113 _ (by decide), e6]
  refine ⟨fun _ => ⟨by omega, by omega⟩, fun z => absurd c' z, fun _ => ⟨fun z => absurd z e, fun _ => ?_⟩⟩
  (intro zq hzq; replace hzq := hzq.symm; subst hzq)
  (intro zq hzq; replace hzq := hzq.symm; subst hzq)
  refine ⟨⟨by omega, by omega⟩, ?_⟩
  (intro zq hzq; replace hzq := hzq.symm; subst hzq)
  refine ⟨⟨by omega, by omega⟩, ?_⟩
  rw [rh_set_j (by decide), e7]
  (intro zq hzq; replace hzq := hzq.symm; subst hzq)
  rw [rh_set_a (by decide), rh_set_j (by decide), e7]
  refine ⟨⟨by omega, by omega⟩, ?_⟩
  (intro zq hzq; replace hzq := hzq.symm; subst hzq)
  rw [rh_set_a (by decide), rh_set_a (by decide), rh_set_a (by decide), en 114 _ (by decide), hnw, ← hB0]
  refine ⟨⟨by omega, by omega⟩, ⟨by omega, by omega⟩, rh1.s E2 ?_⟩
  refine rh1.of (rX32_keep_77 hm _ _ _ _ ?_)
  rw [g1 114 _ (by unfold Fdm; omega), gB0 114 _ (by omega), en 114 _ (by decide), hnw, e147]
  refine ⟨⟨by omega, by omega⟩, fun z => by omega, fun _ => ⟨⟨by omega, by omega⟩, rfl, ⟨?_, ?_, ⟨s, fun k k0 k1 => ?_, d4⟩, fun k k0 k1 => ?_, fun j k j0 j1 k0 k1 h => ?_⟩, fA2, gB1⟩⟩
  · rw [e186, hA2, rh_set_j (by decide), rh_set_s]; omega
  · rw [e187, hA2, rh_set_s]; omega
  · rw [hA2, rh_set_a (by decide), rh_set_a (by decide), f1 _ _ (by have := sb; omega), fA0 _ _ (by have := sb; omega)]
    exact d3 k k0 k1
  · rw [e186] at k1
    have ek : A2 99 k = 106 + 8 * s k := by
      rw [hA2, rh_set_a (by decide), rh_set_a (by decide), f1 _ _ (by have := sb; omega), fA0 _ _ (by have := sb; omega)]
      exact (d3 k k0 (by omega)).2
    have h8 : ∀ c j, 106 ≤ c → A2 c j = A1 c j := fun c j h => by rw [hA2, rh_set_a (by omega), rh_set_a (by omega)]
    rw [ek, e187]
    by_cases e : k = n
    · subst e
      rw [e147]
      refine ⟨⟨?_, ?_, by rw [e148]; exact b2, fun i i0 i1 => ?_⟩, by omega⟩
      · rw [h8 _ _ (by omega), f1 _ _ (by omega), hA0, rh_set_j (by decide), rh_set_s, e147]
      · rw [h8 _ _ (by omega), e148]; exact x1n
      · rw [e148] at i1
        exact (DW i i0 i1).fx (fun c j c0 _ _ _ => h8 c j (by omega)) (fun _ _ _ _ _ _ => rfl)
    · have ns : s k ≠ s n := fun z => e (d4 k n k0 (by omega) n12.1 n12.2 z)
      obtain ⟨sk, -⟩ := d3 k k0 (by omega)
      obtain ⟨p1, p2⟩ := d5 k k0 (by omega)
      rw [(d3 k k0 (by omega)).2] at p1
      rw [o147 k e]
      refine ⟨p1.fx (fun c j c0 c1 => ?_) (o147 k e) ?_ (fun c j c0 c1 h1 h2 => ?_), by omega⟩
      · rw [h8 c j (by omega), f1 _ _ (by omega), fA0 _ _ (by omega)]
      · rw [g1 _ _ (by unfold Fdm; omega), gB0 _ _ (by omega)]; exact en 148 k (by decide)
      · rw [g1 _ _ (by unfold Fdm; omega), gB0 _ _ (by omega)]; exact en c j (by omega)
  · rw [e186] at j1 k1
    by_cases ej : j = n
    · by_cases ek : k = n
      · omega
      · rw [ej, e147, o147 k ek] at h
        have := (d5 k k0 (by omega)).2
        omega
    · by_cases ek : k = n
      · rw [ek, e147, o147 j ej] at h
        have := (d5 j j0 (by omega)).2
        omega
      · rw [o147 j ej, o147 k ek] at h
        exact d6 j k j0 (by omega) k0 (by omega) h
end Docs
