/-! ===== LAYER 2: documents: prices, find ===== -/
section Find
variable {wh wm : rhW}
def Fit (A : rhM) (x i a n bg : Int) : Prop := (bg ≠ 0 → n ≤ A (x + 2) i) ∧ (bg = 0 → A (x + 2) i = n) ∧ ∀ t, 0 ≤ t → t < n → A (x + 1) (12 * i + t) = A 101 (12 * a + t)
def Txt (B : rhM) (c f sz p n bg : Int) : Prop := (bg ≠ 0 → n ≤ sz) ∧ (bg = 0 → sz = n) ∧ ∀ t, 0 ≤ t → t < n → B c (f + t) = B 1 (p + t)
theorem c_fits (hh : rh_hs wh) {x m i a n bg : Int} (hx : rh_bl wh 4 x m) (hi : 0 ≤ i ∧ i < m) (ha : 0 ≤ a ∧ a < 12) (A : rhM) (h : A 102 a = n) (hn : 1 ≤ n ∧ n ≤ 12) : eC wh YX22_fits 1 [(2, x), (0, i), (2, 100), (0, a), (0, bg)] A (rh_if (Fit A x i a n bg) 1 0) A := by
  refine eC.of1 (rC1.of (by decide) (LE0 rfl) ?_)
  have z : ∀ t : Int, ¬ Fit A x i a n bg → rh1 wh YX22_fits 1 53 [(0, 2, x), (1, 0, i), (2, 2, 100), (3, 0, a), (5, 0, n), (6, 0, 0), (7, 0, t)] [] A (fun r M' => r = rh_if (Fit A x i a n bg) 1 0 ∧ M' = A) := fun t ht => by
    refine rh1.of (rX22_fits_53 hh _ _ _ _ _ _ _ _ _ _ hx (hs_rw100 hh) ?_)
    exact ⟨fun z => absurd rfl z.2, fun _ => ⟨⟨by omega, by omega⟩, by rw [rh_if_f ht], rfl⟩⟩
  have w : ∀ (u : Nat) (t : Int), t + u = n → 0 ≤ t → ((bg ≠ 0 → n ≤ A (x + 2) i) ∧ (bg = 0 → A (x + 2) i = n)) → (∀ s, 0 ≤ s → s < t → A (x + 1) (12 * i + s) = A 101 (12 * a + s)) → rh1 wh YX22_fits 1 53 [(0, 2, x), (1, 0, i), (2, 2, 100), (3, 0, a), (5, 0, n), (6, 0, 1), (7, 0, t)] [] A (fun r M' => r = rh_if (Fit A x i a n bg) 1 0 ∧ M' = A) := by
    intro u
    induction u with
    | zero =>
      intro t ht t0 hb hs
      refine rh1.of (rX22_fits_53 hh _ _ _ _ _ _ _ _ _ _ hx (hs_rw100 hh) ?_)
      refine ⟨fun z => by omega, fun _ => ⟨⟨by omega, by omega⟩, ?_, rfl⟩⟩
      rw [rh_if_t ⟨hb.1, hb.2, fun s s0 s1 => hs s s0 (by omega)⟩]
    | succ u ih =>
      intro t ht t0 hb hs
      refine rh1.of (rX22_fits_53 hh _ _ _ _ _ _ _ _ _ _ hx (hs_rw100 hh) ?_)
      refine ⟨fun _ => ?_, fun z => absurd ⟨by omega, by decide⟩ z⟩
      refine rh1.s (vX22_fits_69 hx (c_get hh hx A ⟨by omega, by omega⟩) (LE0 rfl)) ?_
      refine rh1.of (rX22_fits_72 hh _ _ _ _ _ _ _ _ _ _ hx (hs_rw100 hh) ?_)
      refine rh1.s (vX22_fits_76 (hs_rw100 hh) (c_get hh (hs_rw100 hh) A ⟨by omega, by omega⟩) (LE0 rfl)) ?_
      refine rh1.of (rX22_fits_79 hh _ _ _ _ _ _ _ _ _ _ _ hx (hs_rw100 hh) ?_)
      rw [show A (100 + 1) (12 * a + t) = A 101 (12 * a + t) from rfl]
      intro y hy
      by_cases q : A (x + 1) (12 * i + t) = A 101 (12 * a + t)
      · rw [rh_if_t q] at hy
        rw [hy]
        refine ⟨⟨by omega, by omega⟩, ih (t + 1) (by omega) (by omega) hb (fun s s0 s1 => ?_)⟩
        by_cases e : s = t
        · rw [e]; exact q
        · exact hs s s0 (by omega)
      · rw [rh_if_f q] at hy
        rw [hy]
        exact ⟨⟨by omega, by omega⟩, z (t + 1) (fun k => q (k.2.2 t t0 (by omega)))⟩
  refine rh1.of (rX22_fits_0 hh _ _ _ _ _ _ _ _ hx (hs_rw100 hh) ?_)
  rw [show A (100 + 2) a = n from h]
  refine ⟨⟨by omega, by omega⟩, fun _ => ⟨fun b => ⟨hi, ?_⟩, fun b => ⟨hi, ?_⟩⟩, fun z => by omega⟩
  · intro y hy
    by_cases q : n ≤ A (x + 2) i
    · rw [rh_if_t q] at hy
      rw [hy]
      exact w n.toNat 0 (by omega) (by decide) ⟨fun _ => q, fun e => absurd e b⟩ (fun s s0 s1 => by omega)
    · rw [rh_if_f q] at hy
      rw [hy]
      exact z 0 (fun k => q (k.1 b))
  · have b' : bg = 0 := Classical.byContradiction b
    intro y hy
    by_cases q : A (x + 2) i = n
    · rw [rh_if_t q] at hy
      rw [hy]
      exact w n.toNat 0 (by omega) (by decide) ⟨fun e => absurd e b, fun _ => q⟩ (fun s s0 s1 => by omega)
    · rw [rh_if_f q] at hy
      rw [hy]
      exact z 0 (fun k => q (k.2.1 b'))
theorem c_isText (hm : rh_ms wm) {c len f sz p n bg : Int} (hc : rh_bl wm 6 c len) (hf : 0 ≤ f ∧ f + n ≤ len ∧ len ≤ 1000000) (hp : 0 ≤ p ∧ p + n ≤ 4096) (hn : 0 ≤ n ∧ n ≤ 12) (B : rhM) : eC wm YX32_isText 0 [(2, c), (0, f), (0, sz), (2, 1), (0, p), (0, n), (0, bg)] B (rh_if (Txt B c f sz p n bg) 1 0) B := by
  refine eC.of1 (rC1.of (by decide) (LE0 rfl) ?_)
  have w : ∀ (u : Nat) (t : Int), t + u = n → 0 ≤ t → ((bg ≠ 0 → n ≤ sz) ∧ (bg = 0 → sz = n)) → (∀ s, 0 ≤ s → s < t → B c (f + s) = B 1 (p + s)) → rh1 wm YX32_isText 0 25 [(0, 2, c), (1, 0, f), (3, 2, 1), (4, 0, p), (5, 0, n), (7, 0, t)] [] B (fun r M' => r = rh_if (Txt B c f sz p n bg) 1 0 ∧ M' = B) := by
    intro u
    induction u with
    | zero =>
      intro t ht t0 hb hs
      refine rh1.of (rX32_isText_25 hm _ _ _ _ _ _ _ _ _ hc (ms_in6 hm) ?_)
      refine ⟨fun z => by omega, fun _ => ⟨?_, rfl⟩⟩
      rw [rh_if_t ⟨hb.1, hb.2, fun s s0 s1 => hs s s0 (by omega)⟩]
    | succ u ih =>
      intro t ht t0 hb hs
      refine rh1.of (rX32_isText_25 hm _ _ _ _ _ _ _ _ _ hc (ms_in6 hm) ?_)
      refine ⟨fun _ => ⟨⟨by omega, by omega⟩, ⟨by omega, by omega⟩, fun q => ⟨?_, rfl⟩, fun q => ⟨⟨by omega, by omega⟩, ih (t + 1) (by omega) (by omega) hb (fun s s0 s1 => ?_)⟩⟩, fun z => by omega⟩
      · rw [rh_if_f (fun k => q (k.2.2 t t0 (by omega)))]
      · by_cases e : s = t
        · rw [e]; exact Classical.byContradiction q
        · exact hs s s0 (by omega)
  refine rh1.of (rX32_isText_0 hm _ _ _ _ _ _ _ _ _ _ hc (ms_in6 hm) ?_)
  refine ⟨fun b => ⟨fun q => ⟨?_, rfl⟩, fun q => w n.toNat 0 (by omega) (by decide) ⟨fun _ => (by omega), fun e => absurd e b⟩ (fun s s0 s1 => by omega)⟩, fun b => ⟨fun q => ⟨?_, rfl⟩, fun q => w n.toNat 0 (by omega) (by decide) ⟨fun e => absurd e b, fun _ => Classical.byContradiction q⟩ (fun s s0 s1 => by omega)⟩⟩
  · rw [rh_if_f (fun k => by have := k.1 b; omega)]
  · rw [rh_if_f (fun k => q (k.2.1 (Classical.byContradiction b)))]
/-- the price of a word asked for at a word of a document -/
noncomputable def pcv (B : rhM) (k0 a bg : Int) : Int := rh_if (Txt B 150 (12 * k0) (B 149 k0) (B 70 a) (B 71 a) bg) 0 (rh_if (0 < B 151 k0 ∧ Txt B 152 (12 * k0) (B 151 k0) (B 70 a) (B 71 a) bg) (B 153 k0) (-1))
def okP (y : Int) : Prop := y = -1 ∨ (0 ≤ y ∧ y ≤ 63)
theorem ms_150 (hm : rh_ms wm) : rh_bl wm 6 150 11520 := rh_bl.of (o := 150) (m := 11520) hm (by decide +kernel)
theorem ms_152 (hm : rh_ms wm) : rh_bl wm 6 152 11520 := rh_bl.of (o := 152) (m := 11520) hm (by decide +kernel)
theorem c_priceAt (hm : rh_ms wm) {k0 a bg : Int} (hk : 0 ≤ k0 ∧ k0 < 960) (ha : 0 ≤ a ∧ a < 12) (B : rhM) (hn : 1 ≤ B 71 a ∧ B 71 a ≤ 12) (hp : 0 ≤ B 70 a ∧ B 70 a + B 71 a ≤ 4096) : eC wm YX32_priceAt 1 [(2, 0), (0, k0), (0, a), (0, bg)] B (pcv B k0 a bg) B := by
  refine eC.of1 (rC1.of (by decide) (LE0 rfl) ?_)
  have K1 := c_isText hm (f := 12 * k0) (sz := B 149 k0) (p := B 70 a) (n := B 71 a) (bg := bg) (ms_150 hm) ⟨by omega, by omega, by decide⟩ hp ⟨by omega, by omega⟩ B
  have K2 := c_isText hm (f := 12 * k0) (sz := B 151 k0) (p := B 70 a) (n := B 71 a) (bg := bg) (ms_152 hm) ⟨by omega, by omega, by decide⟩ hp ⟨by omega, by omega⟩ B
  refine rh1.of (rX32_priceAt_0 hm _ _ _ _ ?_)
  refine ⟨hk, ⟨by omega, by omega⟩, ⟨by omega, by omega⟩, ?_⟩
  refine rh1.s (eS.fx 5 (x := 12 * k0) rfl ⟨by omega, by omega⟩ rfl) ?_
  refine rh1.s (vX32_priceAt_31 K1 (LE0 rfl)) ?_
  refine rh1.of (rX32_priceAt_34 hm _ _ _ _ _ ?_)
  unfold pcv
  by_cases q : Txt B 150 (12 * k0) (B 149 k0) (B 70 a) (B 71 a) bg
  · rw [rh_if_t q, rh_if_t q]
    exact ⟨fun _ => ⟨rfl, rfl⟩, fun z => absurd (show (1 : Int) ≠ 0 by decide) z⟩
  · rw [rh_if_f q, rh_if_f q]
    refine ⟨fun z => absurd rfl z, fun _ => ⟨hk, fun e => ⟨hk, ⟨by omega, by omega⟩, ⟨by omega, by omega⟩, ?_⟩, fun e => ?_⟩⟩
    · refine rh1.s (eS.fx 5 (x := 12 * k0) rfl ⟨by omega, by omega⟩ rfl) ?_
      refine rh1.s (vX32_priceAt_79 K2 (LE0 rfl)) ?_
      refine rh1.of (rX32_priceAt_82 hm _ _ _ ?_)
      by_cases q2 : Txt B 152 (12 * k0) (B 151 k0) (B 70 a) (B 71 a) bg
      · rw [rh_if_t q2, rh_if_t (show (1 : Int) ≠ 0 by decide), rh_if_t ⟨e, q2⟩]
        (intro zq hzq; replace hzq := hzq.symm; subst hzq)
        rw [rh_if_t (show (1 : Int) ≠ 0 by decide)]
        exact ⟨fun _ => hk, rfl, rfl⟩
      · rw [rh_if_f q2, rh_if_f (show ¬ (0 : Int) ≠ 0 by decide), rh_if_f (fun z => q2 z.2)]
        (intro zq hzq; replace hzq := hzq.symm; subst hzq)
        rw [rh_if_f (show ¬ (0 : Int) ≠ 0 by decide)]
        exact ⟨fun _ => hk, rfl, rfl⟩
    · (intro zq hzq; replace hzq := hzq.symm; subst hzq)
      rw [rh_if_f (show ¬ (0 : Int) ≠ 0 by decide), rh_if_f (fun z => e z.1)]
      exact ⟨fun _ => hk, rfl, rfl⟩
theorem pcv_b {A B : rhM} {x k i a bg : Int} (D : Dcw A B x k i) : okP (pcv B (80 * k + i) a bg) := by
  unfold pcv okP
  by_cases q : Txt B 150 (12 * (80 * k + i)) (B 149 (80 * k + i)) (B 70 a) (B 71 a) bg
  · rw [rh_if_t q]; exact .inr ⟨by decide, by decide⟩
  · rw [rh_if_f q]
    by_cases q2 : 0 < B 151 (80 * k + i) ∧ Txt B 152 (12 * (80 * k + i)) (B 151 (80 * k + i)) (B 70 a) (B 71 a) bg
    · rw [rh_if_t q2]; exact .inr (D.2.2.2.2 q2.1).2
    · rw [rh_if_f q2]; exact .inl rfl
theorem fit_txt {A B : rhM} {x c k0 i a bg v len : Int} (hs : A (x + 2) i = v) (tx : ∀ t, 0 ≤ t → t < v → A (x + 1) (12 * i + t) = B c (12 * k0 + t)) (W : Aw A B (B 1) len a) : Fit A x i a (B 71 a) bg ↔ Txt B c (12 * k0) v (B 70 a) (B 71 a) bg := by
  unfold Fit Txt
  rw [hs]
  have H : ((bg ≠ 0 → B 71 a ≤ v) ∧ (bg = 0 → v = B 71 a)) → B 71 a ≤ v := fun h => by
    by_cases e : bg = 0
    · have := h.2 e; omega
    · exact h.1 e
  refine ⟨fun h => ⟨h.1, h.2.1, fun t t0 t1 => ?_⟩, fun h => ⟨h.1, h.2.1, fun t t0 t1 => ?_⟩⟩
  · have := H ⟨h.1, h.2.1⟩
    rw [← tx t t0 (by omega), h.2.2 t t0 t1]
    exact (W.2.2.2 t t0 t1).1
  · have := H ⟨h.1, h.2.1⟩
    rw [tx t t0 (by omega), h.2.2 t t0 t1]
    exact (W.2.2.2 t t0 t1).1.symm
theorem c_dprice (hh : rh_hs wh) {A B : rhM} {s k i a bg len : Int} (hs : 0 ≤ s ∧ s < 12) (hi : 0 ≤ i ∧ i < 80) (ha : 0 ≤ a ∧ a < 12) (D : Dcw A B (106 + 8 * s) k i) (W : Aw A B (B 1) len a) : eC wh YX22_price 2 [(2, 106 + 8 * s), (0, i), (2, 100), (0, a), (0, bg)] A (pcv B (80 * k + i) a bg) A := by
  refine eC.of1 (rC1.of (by decide) (LE0 rfl) ?_)
  have hdc := hs_dc hh hs.1 hs.2
  obtain ⟨hT, hO⟩ := hs_dcR hh hs.1 hs.2
  obtain ⟨d1, d2, d3, d4, d5⟩ := D
  have f1 := fit_txt (A := A) (B := B) (x := 106 + 8 * s + 1) (c := 150) (k0 := 80 * k + i) (i := i) (a := a) (bg := bg) (v := B 149 (80 * k + i)) (len := len) (by rw [show 106 + 8 * s + 1 + 2 = 106 + 8 * s + 3 by omega]; exact d1.1) (fun t t0 t1 => by rw [show 106 + 8 * s + 1 + 1 = 106 + 8 * s + 2 by omega]; exact (d2 t t0 t1).1) W
  have f2 := fit_txt (A := A) (B := B) (x := 106 + 8 * s + 4) (c := 152) (k0 := 80 * k + i) (i := i) (a := a) (bg := bg) (v := B 151 (80 * k + i)) (len := len) (by rw [show 106 + 8 * s + 4 + 2 = 106 + 8 * s + 6 by omega]; exact d3.1) (fun t t0 t1 => by rw [show 106 + 8 * s + 4 + 1 = 106 + 8 * s + 5 by omega]; exact (d4 t t0 t1).1) W
  have K1 := c_fits hh (bg := bg) hT hi ha A W.1 W.2.1
  have K2 := c_fits hh (bg := bg) hO hi ha A W.1 W.2.1
  refine rh1.of (rX22_price_0 hh _ _ _ _ _ _ _ hdc (hs_rw100 hh) ?_)
  refine rh1.s (vX22_price_9 K1 (LE0 rfl)) ?_
  refine rh1.of (rX22_price_12 hh _ _ _ _ _ _ _ _ hdc (hs_rw100 hh) ?_)
  unfold pcv
  by_cases q : Fit A (106 + 8 * s + 1) i a (B 71 a) bg
  · rw [rh_if_t q, rh_if_t (f1.mp q)]
    exact ⟨fun _ => ⟨rfl, rfl⟩, fun z => absurd (show (1 : Int) ≠ 0 by decide) z⟩
  · rw [rh_if_f q, rh_if_f (fun z => q (f1.mpr z)), d3.1]
    refine ⟨fun z => absurd rfl z, fun _ => ⟨hi, fun e => ?_, fun e => ⟨?_, rfl⟩⟩⟩
    · refine rh1.s (vX22_price_38 K2 (LE0 rfl)) ?_
      refine rh1.of (rX22_price_41 hh _ _ _ _ hdc ?_)
      by_cases q2 : Fit A (106 + 8 * s + 4) i a (B 71 a) bg
      · rw [rh_if_t q2, rh_if_t (show (1 : Int) ≠ 0 by decide), rh_if_t ⟨e, f2.mp q2⟩]
        exact ⟨fun _ => hi, (d5 e).1, rfl⟩
      · rw [rh_if_f q2, rh_if_f (show ¬ (0 : Int) ≠ 0 by decide), rh_if_f (fun z => q2 (f2.mpr z.2))]
        exact ⟨fun _ => hi, rfl, rfl⟩
    · rw [rh_if_f (fun z => e z.1)]
/-- the least that is told -/
noncomputable def bst (f : Int → Int) : Nat → Int → Int → Int
  | 0, _, c => c
  | n + 1, i, c => bst f n (i + 1) (rh_if (f i ≠ -1) (rh_if ((c = -1) ∨ (f i < c)) (f i) c) c)
theorem bs1 {y c : Int} (hy : okP y) (hc : okP c) : okP (rh_if (y ≠ -1) (rh_if ((c = -1) ∨ (y < c)) y c) c) ∧ (rh_if (y ≠ -1) (rh_if ((c = -1) ∨ (y < c)) y c) c = -1 ↔ y = -1 ∧ c = -1) := by
  unfold okP at *
  by_cases q : y ≠ -1
  · rw [rh_if_t q]
    by_cases q2 : (c = -1) ∨ (y < c)
    · rw [rh_if_t q2]; omega
    · rw [rh_if_f q2]; omega
  · rw [rh_if_f q]; omega
theorem bst_b {f : Int → Int} : ∀ (n : Nat) (i c : Int), (∀ j, i ≤ j → j < i + n → okP (f j)) → okP c → okP (bst f n i c) ∧ (bst f n i c = -1 ↔ c = -1 ∧ ∀ j, i ≤ j → j < i + n → f j = -1)
  | 0, i, c => fun _ hc => ⟨hc, fun h => ⟨h, fun j j0 j1 => by omega⟩, fun h => h.1⟩
  | n + 1, i, c => fun hf hc => by
    have s := bs1 (hf i (by omega) (by omega)) hc
    have r := bst_b n (i + 1) (rh_if (f i ≠ -1) (rh_if ((c = -1) ∨ (f i < c)) (f i) c) c) (fun j j0 j1 => hf j (by omega) (by omega)) s.1
    refine ⟨r.1, r.2.trans ⟨fun h => ?_, fun h => ?_⟩⟩
    · have e := s.2.mp h.1
      refine ⟨e.2, fun j j0 j1 => ?_⟩
      by_cases ej : j = i
      · rw [ej]; exact e.1
      · exact h.2 j (by omega) (by omega)
    · exact ⟨s.2.mpr ⟨h.2 i (by omega) (by omega), h.1⟩, fun j j0 j1 => h.2 j (by omega) (by omega)⟩
theorem c_best (hh : rh_hs wh) {A B : rhM} {s k a bg len nw : Int} (hs : 0 ≤ s ∧ s < 12) (ha : 0 ≤ a ∧ a < 12) (hn : A (106 + 8 * s) 1 = nw) (hnw : 0 ≤ nw ∧ nw ≤ 80) (D : ∀ i, 0 ≤ i → i < nw → Dcw A B (106 + 8 * s) k i) (W : Aw A B (B 1) len a) : eC wh YX22_best 3 [(2, 106 + 8 * s), (2, 100), (0, a), (0, bg)] A (bst (fun i => pcv B (80 * k + i) a bg) nw.toNat 0 (-1)) A := by
  refine eC.of1 (rC1.of (by decide) (LE0 rfl) ?_)
  have hdc := hs_dc hh hs.1 hs.2
  have w : ∀ (u : Nat) (i c : Int), i + u = nw → 0 ≤ i → rh1 wh YX22_best 3 6 [(0, 2, 106 + 8 * s), (1, 2, 100), (2, 0, a), (3, 0, bg), (4, 0, c), (5, 0, i)] [] A (fun r M' => r = bst (fun i => pcv B (80 * k + i) a bg) u i c ∧ M' = A) := by
    intro u
    induction u with
    | zero =>
      intro i c hi i0
      refine rh1.of (rX22_best_6 hh _ _ _ _ _ _ _ _ hdc (hs_rw100 hh) ?_)
      rw [hn]
      exact ⟨fun z => by omega, fun _ => ⟨rfl, rfl⟩⟩
    | succ u ih =>
      intro i c hi i0
      refine rh1.of (rX22_best_6 hh _ _ _ _ _ _ _ _ hdc (hs_rw100 hh) ?_)
      rw [hn]
      refine ⟨fun _ => ?_, fun z => by omega⟩
      refine rh1.s (vX22_best_21 hdc (c_dprice hh hs ⟨by omega, by omega⟩ ha (D i i0 (by omega)) W) (LE0 rfl)) ?_
      refine rh1.of (rX22_best_24 hh _ _ _ _ _ _ _ _ _ hdc (hs_rw100 hh) ?_)
      (intro zq hzq; replace hzq := hzq.symm; subst hzq)
      exact ⟨⟨by omega, by omega⟩, ih (i + 1) _ (by omega) (by omega)⟩
  refine rh1.of (rX22_best_0 hh _ _ _ _ _ _ hdc (hs_rw100 hh) ?_)
  exact w nw.toNat 0 (-1) (by omega) (by decide)
theorem m_best (hm : rh_ms wm) {A B : rhM} {x k w bg q nw len : Int} (hk : 0 ≤ k ∧ k < 12) (hq : 0 ≤ q ∧ q < 12) (hn : B 148 k = nw) (hnw : nw ≤ 80) (hl : len ≤ 4096) (W : Aw A B (B 1) len q) : ∀ (u : Nat) (i c : Int), i + u = nw → 0 ≤ i → eS wm YX32_priceWords 2 25 [(0, 2, 0), (1, 0, k), (2, 0, w), (3, 0, bg), (4, 0, q), (5, 0, c), (6, 0, i)] [] B 25 [(0, 2, 0), (1, 0, k), (2, 0, w), (3, 0, bg), (4, 0, q), (5, 0, bst (fun i => pcv B (80 * k + i) q bg) u i c), (6, 0, nw)] [] B := by
  intro u
  induction u with
  | zero =>
    intro i c hi i0
    have e : i = nw := by omega
    subst e
    exact eS.rf
  | succ u ih =>
    intro i c hi i0
    obtain ⟨-, w2, w3, -⟩ := W
    refine eS.of (fun P HP => ?_)
    refine rh1.of (rX32_priceWords_25 hm _ _ _ _ _ _ _ ?_)
    rw [hn]
    refine ⟨hk, fun _ => ?_, fun z => by omega⟩
    refine rh1.s (eS.fx 2 (x := 80 * k + i) rfl ⟨by omega, by omega⟩ rfl) ?_
    refine rh1.s (vX32_priceWords_47 hm (c_priceAt hm (k0 := 80 * k + i) (a := q) (bg := bg) ⟨by omega, by omega⟩ hq B w2 ⟨by omega, by omega⟩) (LE0 rfl)) ?_
    refine rh1.of (rX32_priceWords_50 hm _ _ _ _ _ _ _ _ ?_)
    (intro zq hzq; replace hzq := hzq.symm; subst hzq)
    exact ⟨⟨by omega, by omega⟩, rh1.s (ih (i + 1) _ (by omega) (by omega)) HP⟩
/-- sums over the words asked for -/
noncomputable def lsS (g : Int → Int) : Nat → Int
  | 0 => 0
  | n + 1 => lsS g n + rh_if (g n ≠ -1) (g n) 0
noncomputable def lsH (g : Int → Int) : Nat → Int
  | 0 => 0
  | n + 1 => lsH g n + rh_if (g n ≠ -1) 1 0
theorem ls_b {g : Int → Int} : ∀ (n : Nat), (∀ j : Int, 0 ≤ j → j < n → okP (g j)) → (0 ≤ lsS g n ∧ lsS g n ≤ 63 * n) ∧ (0 ≤ lsH g n ∧ lsH g n ≤ n) ∧ ((∀ j : Int, 0 ≤ j → j < n → g j ≠ -1) → lsH g n = n)
  | 0 => fun _ => ⟨⟨Int.le_refl _, by show (0 : Int) ≤ 63 * ((0 : Nat) : Int); decide⟩, ⟨Int.le_refl _, by show (0 : Int) ≤ ((0 : Nat) : Int); decide⟩, fun _ => rfl⟩
  | n + 1 => fun h => by
    have r := ls_b n (fun j j0 j1 => h j j0 (by omega))
    have hn := h n (by omega) (by omega)
    unfold okP at hn
    simp only [lsS, lsH]
    by_cases q : g n ≠ -1
    · rw [rh_if_t q, rh_if_t q]
      refine ⟨by omega, by omega, fun a => ?_⟩
      have := r.2.2 (fun j j0 j1 => a j j0 (by omega))
      omega
    · rw [rh_if_f q, rh_if_f q]
      exact ⟨by omega, by omega, fun a => absurd (a n (by omega) (by omega)) q⟩
/-- the house's sums of a document -/
theorem h_lookS (hh : rh_hs wh) {A : rhM} {x mode many : Int} {g : Int → Int} (hx : rh_bl wh 3 x 0) (hm : 0 ≤ many ∧ many ≤ 12) (K : ∀ a, 0 ≤ a → a < many → eC wh YX22_best 3 [(2, x), (2, 100), (0, a), (0, rh_if (mode = 2) 1 0)] A (g a) A ∧ okP (g a)) : ∀ (u : Nat) (a : Nat), (a : Int) + u = many → eS wh YX21_look 4 23 [(0, 2, 98), (1, 2, x), (2, 0, mode), (3, 0, lsS g a), (4, 0, lsH g a), (5, 0, many), (6, 0, (a : Int))] [] A 23 [(0, 2, 98), (1, 2, x), (2, 0, mode), (3, 0, lsS g many.toNat), (4, 0, lsH g many.toNat), (5, 0, many), (6, 0, many)] [] A := by
  intro u
  induction u with
  | zero =>
    intro a ha
    have e : many = (a : Int) := by omega
    rw [e, Int.toNat_natCast]
    exact eS.rf
  | succ u ih =>
    intro a ha
    obtain ⟨K1, K2⟩ := K a (by omega) (by omega)
    have lb := ls_b (g := g) a (fun j j0 j1 => (K j j0 (by omega)).2)
    have E := ih (a + 1) (by omega)
    refine eS.of (fun P HP => ?_)
    refine rh1.of (rX21_look_23 hh _ _ _ _ _ _ _ hx ?_)
    refine ⟨fun _ => ?_, fun z => by omega⟩
    refine rh1.s (vX21_look_47 hx K1 (LE0 rfl)) ?_
    refine rh1.of (rX21_look_50 hh _ _ _ _ _ _ _ _ hx ?_)
    unfold okP at K2
    have e1 : lsH g a + rh_if (g a ≠ -1) (1 : Int) 0 = lsH g (a + 1) := rfl
    have e2 : lsS g a + rh_if (g a ≠ -1) (g a) 0 = lsS g (a + 1) := rfl
    have lb2 := ls_b (g := g) (a + 1) (fun j j0 j1 => (K j j0 (by omega)).2)
    rw [e1, e2]
    (intro zq hzq; replace hzq := hzq.symm; subst hzq)
    refine ⟨⟨by omega, by omega⟩, ?_⟩
    (intro zq hzq; replace hzq := hzq.symm; subst hzq)
    refine ⟨⟨by omega, by omega⟩, ⟨by omega, by omega⟩, ?_⟩
    rw [show (a : Int) + 1 = ((a + 1 : Nat) : Int) by omega]
    exact rh1.s E HP
/-- the model's sums of a document -/
theorem m_words (hm : rh_ms wm) {B : rhM} {k w bg nw : Int} {g : Int → Int} (hk : 0 ≤ k ∧ k < 12) (hw : 0 ≤ w ∧ w ≤ 12) (hn : B 148 k = nw) (hnw : 0 ≤ nw) (K : ∀ q, 0 ≤ q → q < w → okP (g q) ∧ ∀ X : rhM, frx (fun c j => c = 0 ∧ (j = 199 ∨ j = 200)) B X → eS wm YX32_priceWords 2 25 [(0, 2, 0), (1, 0, k), (2, 0, w), (3, 0, bg), (4, 0, q), (5, 0, -1), (6, 0, 0)] [] X 25 [(0, 2, 0), (1, 0, k), (2, 0, w), (3, 0, bg), (4, 0, q), (5, 0, g q), (6, 0, nw)] [] X) :
    ∃ B', eC wm YX32_priceWords 2 [(2, 0), (0, k), (0, w), (0, bg)] B 0 B' ∧ frx (fun c j => c = 0 ∧ (j = 199 ∨ j = 200)) B B' ∧ B' 0 199 = lsS g w.toNat ∧ B' 0 200 = lsH g w.toNat := by
  have key : ∀ (u : Nat) (a : Nat) (X : rhM), (a : Int) + u = w → frx (fun c j => c = 0 ∧ (j = 199 ∨ j = 200)) B X → X 0 199 = lsS g a → X 0 200 = lsH g a → ∃ B', (∀ P : Int → rhM → Prop, P 0 B' → rh1 wm YX32_priceWords 2 13 [(0, 2, 0), (1, 0, k), (2, 0, w), (3, 0, bg), (4, 0, (a : Int))] [] X P) ∧ frx (fun c j => c = 0 ∧ (j = 199 ∨ j = 200)) B B' ∧ B' 0 199 = lsS g w.toNat ∧ B' 0 200 = lsH g w.toNat := by
    intro u
    induction u with
    | zero =>
      intro a X ha f x1 x2
      have e : w.toNat = a := by omega
      rw [e]
      refine ⟨X, fun P HP => ?_, f, x1, x2⟩
      refine rh1.of (rX32_priceWords_13 hm _ _ _ _ _ ?_)
      exact ⟨fun z => by omega, fun _ => HP⟩
    | succ u ih =>
      intro a X ha f x1 x2
      obtain ⟨K2, K1⟩ := K a (by omega) (by omega)
      have lb := ls_b (g := g) a (fun j j0 j1 => (K j j0 (by omega)).1)
      have lb2 := ls_b (g := g) (a + 1) (fun j j0 j1 => (K j j0 (by omega)).1)
      have e1 : lsS g a + rh_if (g a = -1) (0 : Int) (g a) = lsS g (a + 1) := by
        show _ = lsS g a + rh_if (g a ≠ -1) (g a) 0
        by_cases q : g a = -1
        · rw [rh_if_t q, rh_if_f (fun z => z q)]
        · rw [rh_if_f q, rh_if_t q]
      have e2 : lsH g a + rh_if (g a ≠ -1) (1 : Int) 0 = lsH g (a + 1) := rfl
      obtain ⟨B', E, f', b1, b2⟩ := ih (a + 1) (rh_set (rh_set X 0 199 (lsS g (a + 1))) 0 200 (lsH g (a + 1))) (by omega) ((f.st (by omega)).st (by omega)) (by rw [rh_set_j (by decide), rh_set_s]) (rh_set_s _ _ _ _)
      refine ⟨B', fun P HP => ?_, f', b1, b2⟩
      refine rh1.of (rX32_priceWords_13 hm _ _ _ _ _ ?_)
      refine ⟨fun _ => rh1.s (K1 X f) ?_, fun z => by omega⟩
      refine rh1.of (rX32_priceWords_25 hm _ _ _ _ _ _ _ ?_)
      rw [f 148 _ (by omega), hn, x1, e1]
      refine ⟨hk, fun z => by omega, fun _ => ?_⟩
      (intro zq hzq; replace hzq := hzq.symm; subst hzq)
      refine ⟨⟨by omega, by omega⟩, ?_⟩
      rw [rh_set_j (by decide), x2, e2]
      (intro zq hzq; replace hzq := hzq.symm; subst hzq)
      refine ⟨⟨by omega, by omega⟩, ⟨by omega, by omega⟩, ?_⟩
      rw [show (a : Int) + 1 = ((a + 1 : Nat) : Int) by omega]
      exact E P HP
  obtain ⟨B', E, f', b1, b2⟩ := key w.toNat 0 (rh_set (rh_set B 0 199 0) 0 200 0) (by omega) ((frx.rf.st (by omega)).st (by omega)) (by rw [rh_set_j (by decide), rh_set_s]; rfl) (by rw [rh_set_s]; rfl)
  refine ⟨B', eC.of1 (rC1.of (by decide) (LE0 rfl) ?_), f', b1, b2⟩
  refine rh1.of (rX32_priceWords_0 hm _ _ _ _ ?_)
  exact E _ ⟨rfl, rfl⟩
/-- a place where the words stand side by side -/
noncomputable def pss (f : Int → Int → Int) (i : Int) : Nat → Int
  | 0 => 0
  | n + 1 => pss f i n + f (i + n) n
theorem pss_b {f : Int → Int → Int} {i : Int} : ∀ (n : Nat), (∀ a : Int, 0 ≤ a → a < n → okP (f (i + a) a)) → (-(n : Int) ≤ pss f i n ∧ pss f i n ≤ 63 * n) ∧ ((∀ a : Int, 0 ≤ a → a < n → f (i + a) a ≠ -1) → 0 ≤ pss f i n)
  | 0 => fun _ => ⟨⟨by show -((0 : Nat) : Int) ≤ 0; decide, by show (0 : Int) ≤ 63 * ((0 : Nat) : Int); decide⟩, fun _ => Int.le_refl _⟩
  | n + 1 => fun h => by
    have r := pss_b n (fun a a0 a1 => h a a0 (by omega))
    have hn := h n (by omega) (by omega)
    unfold okP at hn
    simp only [pss]
    refine ⟨by omega, fun q => ?_⟩
    have := r.2 (fun a a0 a1 => q a a0 (by omega))
    have := q n (by omega) (by omega)
    omega
/-- all of them stand there -/
def Pok (f : Int → Int → Int) (i n : Int) : Prop := ∀ a, 0 ≤ a → a < n → f (i + a) a ≠ -1
theorem h_place (hh : rh_hs wh) {A : rhM} {x many c i : Int} {f : Int → Int → Int} (hx : rh_bl wh 3 x 0) (hi : 0 ≤ i ∧ i + many ≤ 80) (hm : 0 ≤ many ∧ many ≤ 12) (K : ∀ a, 0 ≤ a → a < many → eC wh YX22_price 2 [(2, x), (0, i + a), (2, 100), (0, a), (0, 0)] A (f (i + a) a) A ∧ okP (f (i + a) a)) : ∃ e, eS wh YX22_row 3 22 [(0, 2, x), (1, 2, 100), (2, 0, many), (3, 0, c), (4, 0, i), (5, 0, 0), (6, 0, 0)] [] A 22 [(0, 2, x), (1, 2, 100), (2, 0, many), (3, 0, c), (4, 0, i), (5, 0, rh_if (Pok f i many) (pss f i many.toNat) (-1)), (6, 0, e)] [] A ∧ ¬ (e < many ∧ rh_if (Pok f i many) (pss f i many.toNat) (-1) ≠ -1) := by
  have pb := fun (n : Nat) (hn : (n : Int) ≤ many) => pss_b (f := f) (i := i) n (fun a a0 a1 => (K a a0 (by omega)).2)
  have stop : ¬ Pok f i many → ∃ e, eS wh YX22_row 3 22 [(0, 2, x), (1, 2, 100), (2, 0, many), (3, 0, c), (4, 0, i), (5, 0, -1), (6, 0, e)] [] A 22 [(0, 2, x), (1, 2, 100), (2, 0, many), (3, 0, c), (4, 0, i), (5, 0, rh_if (Pok f i many) (pss f i many.toNat) (-1)), (6, 0, e)] [] A ∧ ¬ (e < many ∧ rh_if (Pok f i many) (pss f i many.toNat) (-1) ≠ -1) := fun n => ⟨0, by rw [rh_if_f n]; exact eS.rf, by rw [rh_if_f n]; exact fun z => z.2 rfl⟩
  have key : ∀ (u : Nat) (a : Nat), (a : Int) + u = many → (∀ b : Int, 0 ≤ b → b < a → f (i + b) b ≠ -1) → ∃ e, eS wh YX22_row 3 22 [(0, 2, x), (1, 2, 100), (2, 0, many), (3, 0, c), (4, 0, i), (5, 0, pss f i a), (6, 0, (a : Int))] [] A 22 [(0, 2, x), (1, 2, 100), (2, 0, many), (3, 0, c), (4, 0, i), (5, 0, rh_if (Pok f i many) (pss f i many.toNat) (-1)), (6, 0, e)] [] A ∧ ¬ (e < many ∧ rh_if (Pok f i many) (pss f i many.toNat) (-1) ≠ -1) := by
    intro u
    induction u with
    | zero =>
      intro a ha hb
      have ok : Pok f i many := fun b b0 b1 => hb b b0 (by omega)
      have e : many.toNat = a := by omega
      rw [rh_if_t ok, e]
      exact ⟨a, eS.rf, fun z => by omega⟩
    | succ u ih =>
      intro a ha hb
      obtain ⟨K1, K2⟩ := K a (by omega) (by omega)
      have p1 := pb a (by omega)
      have p0 := p1.2 hb
      have step : ∀ P : Int → rhM → Prop, (∀ y, y = rh_if (f (i + a) a = -1) (-1) (pss f i a + f (i + a) a) → rI y ∧ rh1 wh YX22_row 3 22 [(0, 2, x), (1, 2, 100), (2, 0, many), (3, 0, c), (4, 0, i), (5, 0, y), (6, 0, (a : Int) + 1)] [] A P) → rh1 wh YX22_row 3 22 [(0, 2, x), (1, 2, 100), (2, 0, many), (3, 0, c), (4, 0, i), (5, 0, pss f i a), (6, 0, (a : Int))] [] A P := fun P HP => by
        refine rh1.of (rX22_row_22 hh _ _ _ _ _ _ _ _ _ hx (hs_rw100 hh) ?_)
        refine ⟨fun _ => ?_, fun z => absurd ⟨by omega, by omega⟩ z⟩
        refine rh1.s (eS.fx 3 (x := i + a) rfl ⟨by omega, by omega⟩ rfl) ?_
        refine rh1.s (vX22_row_44 hx K1 (LE0 rfl)) ?_
        refine rh1.of (rX22_row_47 hh _ _ _ _ _ _ _ _ _ _ hx (hs_rw100 hh) ?_)
        intro y hy
        exact ⟨(HP y hy).1, ⟨by omega, by omega⟩, (HP y hy).2⟩
      by_cases q : f (i + a) a = -1
      · have no : ¬ Pok f i many := fun z => z a (by omega) (by omega) q
        refine ⟨(a : Int) + 1, eS.of (fun P HP => step P (fun y hy => ?_)), by rw [rh_if_f no]; exact fun z => z.2 rfl⟩
        rw [rh_if_t q] at hy
        rw [hy]
        rw [rh_if_f no] at HP
        exact ⟨⟨by omega, by omega⟩, HP⟩
      · obtain ⟨e, E, hE⟩ := ih (a + 1) (by omega) (fun b b0 b1 => by
          by_cases eb : b = a
          · rw [eb]; exact q
          · exact hb b b0 (by omega))
        have p2 := pb (a + 1) (by omega)
        refine ⟨e, eS.of (fun P HP => step P (fun y hy => ?_)), hE⟩
        rw [rh_if_f q] at hy
        have ey : y = pss f i (a + 1) := hy
        rw [ey]
        refine ⟨⟨by omega, by omega⟩, ?_⟩
        rw [show (a : Int) + 1 = ((a + 1 : Nat) : Int) by omega]
        exact rh1.s E HP
  exact key many.toNat 0 (by omega) (fun b b0 b1 => by omega)
theorem m_plac9 (hm : rh_ms wm) {B : rhM} {k w i : Int} {f : Int → Int → Int} (hw : 0 ≤ w ∧ w ≤ 12) (hi : 0 ≤ i ∧ i + w ≤ 80) (hk : 0 ≤ k ∧ k < 12) (hb : B 0 99 = w) (K : ∀ a, 0 ≤ a → a < w → eC wm YX32_priceAt 1 [(2, 0), (0, 80 * k + (i + a)), (0, a), (0, 0)] B (f (i + a) a) B ∧ okP (f (i + a) a)) : eS wm YX32_pricePlaces 2 35 [(0, 2, 0), (1, 0, k), (2, 0, i), (3, 0, 0), (4, 0, 1), (5, 0, 0)] [] B 35 [(0, 2, 0), (1, 0, k), (2, 0, i), (3, 0, pss f i w.toNat), (4, 0, rh_if (Pok f i w) 1 0), (5, 0, w)] [] B := by
  have pb := fun (n : Nat) (hn : (n : Int) ≤ w) => pss_b (f := f) (i := i) n (fun a a0 a1 => (K a a0 (by omega)).2)
  have key : ∀ (u : Nat) (a : Nat), (a : Int) + u = w → eS wm YX32_pricePlaces 2 35 [(0, 2, 0), (1, 0, k), (2, 0, i), (3, 0, pss f i a), (4, 0, rh_if (Pok f i a) 1 0), (5, 0, (a : Int))] [] B 35 [(0, 2, 0), (1, 0, k), (2, 0, i), (3, 0, pss f i w.toNat), (4, 0, rh_if (Pok f i w) 1 0), (5, 0, w)] [] B := by
    intro u
    induction u with
    | zero =>
      intro a ha
      have e : w = (a : Int) := by omega
      rw [e, Int.toNat_natCast]
      exact eS.rf
    | succ u ih =>
      intro a ha
      obtain ⟨K1, K2⟩ := K a (by omega) (by omega)
      have p1 := pb a (by omega)
      have p2 := pb (a + 1) (by omega)
      have E := ih (a + 1) (by omega)
      refine eS.of (fun P HP => ?_)
      refine rh1.of (rX32_pricePlaces_35 hm _ _ _ _ _ _ ?_)
      rw [hb]
      refine ⟨fun _ => ?_, fun z => by omega⟩
      rw [show 80 * k + i + (a : Int) = 80 * k + (i + a) by omega]
      refine rh1.s (eS.fx 2 (x := 80 * k + (i + a)) rfl ⟨by omega, by omega⟩ rfl) ?_
      refine rh1.s (vX32_pricePlaces_57 hm K1 (LE0 rfl)) ?_
      refine rh1.of (rX32_pricePlaces_60 hm _ _ _ _ _ _ _ ?_)
      intro y hy
      have e1 : pss f i a + f (i + a) a = pss f i (a + 1) := rfl
      have ey : y = rh_if (Pok f i ((a + 1 : Nat) : Int)) 1 0 := by
        rw [hy]
        by_cases q : Pok f i a
        · rw [rh_if_t q]
          by_cases q2 : f (i + a) a ≠ -1
          · have q3 : Pok f i ((a + 1 : Nat) : Int) := fun b b0 b1 => by
              by_cases eb : b = (a : Int)
              · rw [eb]; exact q2
              · exact q b b0 (by omega)
            rw [rh_if_t ⟨by decide, q2⟩, rh_if_t q3]
          · rw [rh_if_f (fun z => q2 z.2), rh_if_f (fun z => q2 (z a (by omega) (by omega)))]
        · rw [rh_if_f q, rh_if_f (fun z => z.1 rfl), rh_if_f (fun z => q (fun b b0 b1 => z b b0 (by omega)))]
      rw [e1, ey]
      refine ⟨⟨by omega, by omega⟩, ⟨by omega, by omega⟩, ?_⟩
      rw [show (a : Int) + 1 = ((a + 1 : Nat) : Int) by omega]
      exact rh1.s E HP
  have := key w.toNat 0 (by omega)
  rw [show ((0 : Nat) : Int) = 0 from rfl, rh_if_t (show Pok f i 0 from fun a a0 a1 => by omega)] at this
  exact this
def Fpz (c j : Int) : Prop := c = 0 ∧ (j = 199 ∨ j = 200)
/-- the least place, side by side -/
theorem t_row (hh : rh_hs wh) (hm : rh_ms wm) {A B : rhM} {x k w nw : Int} {f : Int → Int → Int} (hx : rh_bl wh 3 x 0) (hk : 0 ≤ k ∧ k < 12) (hw : 1 ≤ w ∧ w ≤ 12) (hnw : 0 ≤ nw ∧ nw ≤ 80) (a1 : A x 1 = nw) (b1 : B 148 k = nw) (b9 : B 0 99 = w)
    (KH : ∀ i a, 0 ≤ i → i < nw → 0 ≤ a → a < w → eC wh YX22_price 2 [(2, x), (0, i), (2, 100), (0, a), (0, 0)] A (f i a) A ∧ okP (f i a))
    (KM : ∀ X : rhM, frx Fpz B X → ∀ i a, 0 ≤ i → i < nw → 0 ≤ a → a < w → eC wm YX32_priceAt 1 [(2, 0), (0, 80 * k + i), (0, a), (0, 0)] X (f i a) X) :
    ∃ c B', eC wh YX22_row 3 [(2, x), (2, 100), (0, w)] A c A ∧ eC wm YX32_pricePlaces 2 [(2, 0), (0, k)] B 0 B' ∧ frx Fpz B B' ∧ ((c = -1 ∧ B' 0 200 = 0) ∨ ((0 ≤ c ∧ c ≤ 1000) ∧ B' 0 199 = c ∧ B' 0 200 = w ∧ ∃ i, 0 ≤ i ∧ i + w ≤ nw ∧ Pok f i w)) := by
  have key : ∀ (u : Nat) (i c : Int) (X : rhM), nw + 1 ≤ i + w + u → 0 ≤ i → i ≤ 81 → frx Fpz B X → ((c = -1 ∧ X 0 200 = 0) ∨ ((0 ≤ c ∧ c ≤ 1000) ∧ X 0 199 = c ∧ X 0 200 = w ∧ ∃ i, 0 ≤ i ∧ i + w ≤ nw ∧ Pok f i w)) → ∃ c' B', (∀ P : Int → rhM → Prop, P c' A → rh1 wh YX22_row 3 5 [(0, 2, x), (1, 2, 100), (2, 0, w), (3, 0, c), (4, 0, i)] [] A P) ∧ (∀ P : Int → rhM → Prop, P 0 B' → rh1 wm YX32_pricePlaces 2 12 [(0, 2, 0), (1, 0, k), (2, 0, i)] [] X P) ∧ frx Fpz B B' ∧ ((c' = -1 ∧ B' 0 200 = 0) ∨ ((0 ≤ c' ∧ c' ≤ 1000) ∧ B' 0 199 = c' ∧ B' 0 200 = w ∧ ∃ i, 0 ≤ i ∧ i + w ≤ nw ∧ Pok f i w)) := by
    intro u
    induction u with
    | zero =>
      intro i c X hu i0 i1 fX hc
      refine ⟨c, X, fun P HP => ?_, fun P HP => ?_, fX, hc⟩
      · refine rh1.of (rX22_row_5 hh _ _ _ _ _ _ _ hx (hs_rw100 hh) ?_)
        rw [a1]
        exact ⟨⟨by omega, by omega⟩, fun z => by omega, fun _ => HP⟩
      · refine rh1.of (rX32_pricePlaces_12 hm _ _ _ ?_)
        rw [fX 0 99 (by unfold Fpz; omega), fX 148 _ (by unfold Fpz; omega), b1, b9]
        exact ⟨hk, ⟨by omega, by omega⟩, fun z => by omega, fun _ => HP⟩
    | succ u ih =>
      intro i c X hu i0 i1 fX hc
      by_cases en : i + w ≤ nw
      case neg =>
        refine ⟨c, X, fun P HP => ?_, fun P HP => ?_, fX, hc⟩
        · refine rh1.of (rX22_row_5 hh _ _ _ _ _ _ _ hx (hs_rw100 hh) ?_)
          rw [a1]
          exact ⟨⟨by omega, by omega⟩, fun z => by omega, fun _ => HP⟩
        · refine rh1.of (rX32_pricePlaces_12 hm _ _ _ ?_)
          rw [fX 0 99 (by unfold Fpz; omega), fX 148 _ (by unfold Fpz; omega), b1, b9]
          exact ⟨hk, ⟨by omega, by omega⟩, fun z => by omega, fun _ => HP⟩
      have pb := pss_b (f := f) (i := i) w.toNat (fun a a0 a1 => (KH (i + a) a (by omega) (by omega) a0 (by omega)).2)
      obtain ⟨e, EH, he⟩ := h_place hh (c := c) (i := i) (f := f) hx ⟨by omega, by omega⟩ ⟨by omega, by omega⟩ (fun a a0 a1 => KH (i + a) a (by omega) (by omega) a0 a1)
      have x9 : X 0 99 = w := by rw [fX 0 99 (by unfold Fpz; omega)]; exact b9
      have EM := m_plac9 hm (k := k) (i := i) (f := f) ⟨by omega, by omega⟩ ⟨by omega, by omega⟩ hk x9 (fun a a0 a1 => ⟨KM X fX (i + a) a (by omega) (by omega) a0 a1, (KH (i + a) a (by omega) (by omega) a0 a1).2⟩)
      have goH : ∀ (P : Int → rhM → Prop) (y : Int), y = rh_if (rh_if (Pok f i w) (pss f i w.toNat) (-1) ≠ -1) (rh_if ((c = -1) ∨ (rh_if (Pok f i w) (pss f i w.toNat) (-1) < c)) (rh_if (Pok f i w) (pss f i w.toNat) (-1)) c) c → rh1 wh YX22_row 3 5 [(0, 2, x), (1, 2, 100), (2, 0, w), (3, 0, y), (4, 0, i + 1)] [] A P → rh1 wh YX22_row 3 5 [(0, 2, x), (1, 2, 100), (2, 0, w), (3, 0, c), (4, 0, i)] [] A P := fun P y hy HP => by
        refine rh1.of (rX22_row_5 hh _ _ _ _ _ _ _ hx (hs_rw100 hh) ?_)
        rw [a1]
        refine ⟨⟨by omega, by omega⟩, fun _ => rh1.s EH ?_, fun z => absurd en z⟩
        refine rh1.of (rX22_row_22 hh _ _ _ _ _ _ _ _ _ hx (hs_rw100 hh) ?_)
        refine ⟨fun z => absurd z he, fun _ => ?_⟩
        rw [← hy]
        (intro zq hzq; replace hzq := hzq.symm; subst hzq)
        exact ⟨⟨by omega, by omega⟩, HP⟩
      have goM : ∀ P : Int → rhM → Prop, ((Pok f i w ∧ ((X 0 200 = 0) ∨ (pss f i w.toNat < X 0 199))) → rh1 wm YX32_pricePlaces 2 12 [(0, 2, 0), (1, 0, k), (2, 0, i + 1)] [] (rh_set (rh_set X 0 199 (pss f i w.toNat)) 0 200 w) P) → (¬ (Pok f i w ∧ ((X 0 200 = 0) ∨ (pss f i w.toNat < X 0 199))) → rh1 wm YX32_pricePlaces 2 12 [(0, 2, 0), (1, 0, k), (2, 0, i + 1)] [] X P) → rh1 wm YX32_pricePlaces 2 12 [(0, 2, 0), (1, 0, k), (2, 0, i)] [] X P := fun P H1 H2 => by
        refine rh1.of (rX32_pricePlaces_12 hm _ _ _ ?_)
        rw [x9, fX 148 _ (by unfold Fpz; omega), b1]
        refine ⟨hk, ⟨by omega, by omega⟩, fun _ => rh1.s EM ?_, fun z => absurd en z⟩
        refine rh1.of (rX32_pricePlaces_35 hm _ _ _ _ _ _ ?_)
        rw [x9]
        refine ⟨fun z => by omega, fun _ => ⟨fun q => ⟨fun q2 => ?_, fun q2 => ⟨⟨by omega, by omega⟩, H2 (fun z => q2 z.2)⟩⟩, fun q => ⟨⟨by omega, by omega⟩, H2 (fun z => q (by rw [rh_if_t z.1]; decide))⟩⟩⟩
        have ok : Pok f i w := Classical.byContradiction (fun z => q (by rw [rh_if_f z]))
        rw [rh_set_j (by decide), x9]
        (intro zq hzq; replace hzq := hzq.symm; subst hzq)
        exact ⟨⟨by omega, by omega⟩, H1 ⟨ok, q2⟩⟩
      by_cases ok : Pok f i w
      · have s0 := pb.2 (fun a a0 a1 => ok a a0 (by omega))
        have so : rh_if (Pok f i w) (pss f i w.toNat) (-1) = pss f i w.toNat := rh_if_t ok
        by_cases q : c = -1 ∨ pss f i w.toNat < c
        · have fX2 : frx Fpz B (rh_set (rh_set X 0 199 (pss f i w.toNat)) 0 200 w) := (fX.st (by unfold Fpz; omega)).st (by unfold Fpz; omega)
          obtain ⟨c', B', E1, E2, E3, E4⟩ := ih (i + 1) (pss f i w.toNat) (rh_set (rh_set X 0 199 (pss f i w.toNat)) 0 200 w) (by omega) (by omega) (by omega) fX2 (.inr ⟨⟨by omega, by omega⟩, by rw [rh_set_j (by decide), rh_set_s], rh_set_s _ _ _ _, i, i0, en, ok⟩)
          refine ⟨c', B', fun P HP => goH P _ ?_ (E1 P HP), fun P HP => goM P (fun _ => E2 P HP) (fun z => absurd ⟨ok, ?_⟩ z), E3, E4⟩
          · rw [so, rh_if_t (show pss f i w.toNat ≠ -1 by omega), rh_if_t q]
          · rcases hc with ⟨h1, h2⟩ | ⟨h1, h2, h3, -⟩
            · exact .inl h2
            · rw [h2]; exact .inr (q.resolve_left (by omega))
        · have nc : c ≠ -1 := fun z => q (.inl z)
          rcases hc with ⟨h1, -⟩ | ⟨h1, h2, h3, h4⟩
          · exact absurd h1 nc
          obtain ⟨c', B', E1, E2, E3, E4⟩ := ih (i + 1) c X (by omega) (by omega) (by omega) fX (.inr ⟨h1, h2, h3, h4⟩)
          refine ⟨c', B', fun P HP => goH P _ ?_ (E1 P HP), fun P HP => goM P (fun z => absurd z.2 ?_) (fun _ => E2 P HP), E3, E4⟩
          · rw [so, rh_if_t (show pss f i w.toNat ≠ -1 by omega), rh_if_f q]
          · rw [h2, h3]
            intro z
            rcases z with z | z
            · omega
            · exact q (.inr z)
      · obtain ⟨c', B', E1, E2, E3, E4⟩ := ih (i + 1) c X (by omega) (by omega) (by omega) fX hc
        refine ⟨c', B', fun P HP => goH P _ ?_ (E1 P HP), fun P HP => goM P (fun z => absurd z.1 ok) (fun _ => E2 P HP), E3, E4⟩
        rw [rh_if_f ok, rh_if_f (fun z => z rfl)]
  obtain ⟨c', B', E1, E2, E3, E4⟩ := key (nw + 1).toNat 0 (-1) (rh_set (rh_set B 0 199 0) 0 200 0) (by omega) (by decide) (by decide) ((frx.rf.st (by unfold Fpz; omega)).st (by unfold Fpz; omega)) (.inl ⟨rfl, rh_set_s _ _ _ _⟩)
  refine ⟨c', B', eC.of1 (rC1.of (by decide) (LE0 rfl) ?_), eC.of1 (rC1.of (by decide) (LE0 rfl) ?_), E3, E4⟩
  · refine rh1.of (rX22_row_0 hh _ _ _ _ _ hx (hs_rw100 hh) ?_)
    exact E1 _ ⟨rfl, rfl⟩
  · refine rh1.of (rX32_pricePlaces_0 hm _ _ ?_)
    exact E2 _ ⟨rfl, rfl⟩
/-- a hit finds its place, side by side -/
theorem t_insert (hh : rh_hs wh) (hm : rh_ms wm) {A B : rhM} {h nu p m : Int} (R : Rht A B) (hb : B 0 195 = h) (h12 : h < 12) (bp : B 0 199 = p) (bm : B 0 200 = m) : ∃ A' B', eC wh YX21_insert 0 [(2, 98), (0, nu), (0, p), (0, m)] A 0 A' ∧ eC wm YX32_putHit 0 [(2, 0), (0, nu)] B 0 B' ∧ Rht A' B' ∧ B' 0 195 = h + 1 ∧ frx (fun c j => (c = 98 ∧ j = 5) ∨ (103 ≤ c ∧ c ≤ 105)) A A' ∧ frx (fun c j => (c = 0 ∧ j = 195) ∨ (154 ≤ c ∧ c ≤ 156)) B B' := by
  obtain ⟨r1, r2⟩ := R
  rw [hb] at r1 r2
  have key : ∀ (u : Nat) (t : Int) (X Y : rhM), t = u → t ≤ h → X 98 5 = h + 1 → Y 0 195 = h → Y 0 199 = p → Y 0 200 = m → (∀ i, 0 ≤ i → i ≤ h → i ≠ t → X 103 i = Y 154 i ∧ X 104 i = Y 155 i ∧ X 105 i = Y 156 i) → ∃ A' B', (∀ P : Int → rhM → Prop, P 0 A' → rh1 wh YX21_insert 0 13 [(0, 2, 98), (1, 0, nu), (2, 0, p), (3, 0, m), (4, 0, t)] [] X P) ∧ (∀ P : Int → rhM → Prop, P 0 B' → rh1 wm YX32_putHit 0 5 [(0, 2, 0), (1, 0, nu), (2, 0, t)] [] Y P) ∧ Rht A' B' ∧ B' 0 195 = h + 1 ∧ frx (fun c j => 103 ≤ c ∧ c ≤ 105) X A' ∧ frx (fun c j => (c = 0 ∧ j = 195) ∨ (154 ≤ c ∧ c ≤ 156)) Y B' := by
    intro u
    have fin : ∀ (t : Int) (X Y : rhM), 0 ≤ t → t ≤ h → X 98 5 = h + 1 → Y 0 195 = h → Y 0 199 = p → Y 0 200 = m → (∀ i, 0 ≤ i → i ≤ h → i ≠ t → X 103 i = Y 154 i ∧ X 104 i = Y 155 i ∧ X 105 i = Y 156 i) → Rht (rh_set (rh_set (rh_set X 103 t nu) 104 t p) 105 t m) (rh_set (rh_set (rh_set (rh_set Y 154 t nu) 155 t p) 156 t m) 0 195 (h + 1)) := by
      intro t X Y t0 t1 x5 y5 y9 y0 hx
      refine ⟨by rw [rh_set_a (by decide), rh_set_a (by decide), rh_set_a (by decide), x5, rh_set_s]; omega, fun i i0 i1 => ?_⟩
      rw [rh_set_s] at i1
      by_cases e : i = t
      · rw [e, rh_set_a (a := 103) (by decide), rh_set_a (a := 103) (by decide), rh_set_s, rh_set_a (a := 104) (by decide), rh_set_s, rh_set_s, rh_set_a (a := 154) (by decide), rh_set_a (a := 154) (by decide), rh_set_a (a := 154) (by decide), rh_set_s, rh_set_a (a := 155) (by decide), rh_set_a (a := 155) (by decide), rh_set_s, rh_set_a (a := 156) (by decide), rh_set_s]
        exact ⟨rfl, rfl, rfl⟩
      · have := hx i i0 (by omega) e
        rw [rh_set_j e, rh_set_j e, rh_set_j e, rh_set_j e, rh_set_j e, rh_set_j e, rh_set_j e, rh_set_j e, rh_set_j e, rh_set_a (a := 154) (by decide), rh_set_j e, rh_set_j e, rh_set_j e, rh_set_a (a := 155) (by decide), rh_set_j e, rh_set_j e, rh_set_j e, rh_set_a (a := 156) (by decide), rh_set_j e, rh_set_j e, rh_set_j e]
        exact this
    induction u with
    | zero =>
      intro t X Y ht th x5 y5 y9 y0 hx
      have e0 : t = 0 := by omega
      subst e0
      refine ⟨_, _, fun P HP => ?_, fun P HP => ?_, fin 0 X Y (by decide) th x5 y5 y9 y0 hx, rh_set_s _ _ _ _, ((frx.rf.st (by omega)).st (by omega)).st (by omega), (((frx.rf.st (by omega)).st (by omega)).st (by omega)).st (by omega)⟩
      · refine rh1.of (rX21_insert_13 hh _ _ _ _ _ ?_)
        exact ⟨fun z => by omega, fun _ => ⟨⟨by omega, by omega⟩, ⟨by omega, by omega⟩, ⟨by omega, by omega⟩, HP⟩⟩
      · refine rh1.of (rX32_putHit_5 hm _ _ _ ?_)
        refine ⟨fun z => by omega, fun _ => ⟨⟨by omega, by omega⟩, ?_⟩⟩
        rw [rh_set_a (by decide), y9]
        (intro zq hzq; replace hzq := hzq.symm; subst hzq)
        refine ⟨⟨by omega, by omega⟩, ?_⟩
        (intro zq hzq; replace hzq := hzq.symm; subst hzq)
        rw [rh_set_a (by decide), rh_set_a (by decide), y0]
        refine ⟨⟨by omega, by omega⟩, ?_⟩
        (intro zq hzq; replace hzq := hzq.symm; subst hzq)
        rw [rh_set_a (by decide), rh_set_a (by decide), rh_set_a (by decide), y5]
        exact ⟨⟨by omega, by omega⟩, HP⟩
    | succ u ih =>
      intro t X Y ht th x5 y5 y9 y0 hx
      obtain ⟨q1, q2, q3⟩ := hx (t - 1) (by omega) (by omega) (by omega)
      by_cases mv : ¬ X 104 (t - 1) ≤ p ∨ (X 104 (t - 1) = p ∧ X 105 (t - 1) < m)
      · obtain ⟨X1, hX1⟩ : ∃ X1, X1 = rh_set (rh_set (rh_set X 103 t (X 103 (t - 1))) 104 t (X 104 (t - 1))) 105 t (X 105 (t - 1)) := ⟨_, rfl⟩
        obtain ⟨Y1, hY1⟩ : ∃ Y1, Y1 = rh_set (rh_set (rh_set Y 154 t (Y 154 (t - 1))) 155 t (Y 155 (t - 1))) 156 t (Y 156 (t - 1)) := ⟨_, rfl⟩
        obtain ⟨A', B', E1, E2, E3, E4, f1, g1⟩ := ih (t + (-1)) X1 Y1 (by omega) (by omega) (by rw [hX1, rh_set_a (by decide), rh_set_a (by decide), rh_set_a (by decide)]; exact x5) (by rw [hY1, rh_set_a (by decide), rh_set_a (by decide), rh_set_a (by decide)]; exact y5) (by rw [hY1, rh_set_a (by decide), rh_set_a (by decide), rh_set_a (by decide)]; exact y9) (by rw [hY1, rh_set_a (by decide), rh_set_a (by decide), rh_set_a (by decide)]; exact y0) (fun i i0 i1 ne => by
          by_cases e : i = t
          · rw [e, hX1, hY1, rh_set_a (a := 103) (by decide), rh_set_a (a := 103) (by decide), rh_set_s, rh_set_a (a := 104) (by decide), rh_set_s, rh_set_s, rh_set_a (a := 154) (by decide), rh_set_a (a := 154) (by decide), rh_set_s, rh_set_a (a := 155) (by decide), rh_set_s, rh_set_s]
            exact ⟨q1, q2, q3⟩
          · rw [hX1, hY1, rh_set_j e, rh_set_j e, rh_set_j e, rh_set_j e, rh_set_j e, rh_set_j e, rh_set_j e, rh_set_j e, rh_set_j e, rh_set_j e, rh_set_j e, rh_set_j e, rh_set_j e, rh_set_j e, rh_set_j e, rh_set_j e, rh_set_j e, rh_set_j e]
            exact hx i i0 i1 e)
        refine ⟨A', B', fun P HP => ?_, fun P HP => ?_, E3, E4, (by rw [hX1] at f1; exact (((frx.rf.st (by omega)).st (by omega)).st (by omega)).tr f1), (by rw [hY1] at g1; exact (((frx.rf.st (by omega)).st (by omega)).st (by omega)).tr g1)⟩
        · have HH := E1 P HP
          rw [hX1] at HH
          refine rh1.of (rX21_insert_13 hh _ _ _ _ _ ?_)
          refine ⟨fun _ => ⟨⟨by omega, by omega⟩, fun c => ⟨⟨by omega, by omega⟩, fun _ => ⟨by omega, by omega⟩, fun c2 => ⟨⟨by omega, by omega⟩, ⟨by omega, by omega⟩, ?_⟩, fun c2 => absurd mv (fun z => z.elim (fun a => a c) c2)⟩, fun c => ⟨⟨by omega, by omega⟩, ⟨by omega, by omega⟩, ?_⟩⟩, fun z => by omega⟩
          · (intro zq hzq; replace hzq := hzq.symm; subst hzq)
            refine ⟨⟨by omega, by omega⟩, ⟨by omega, by omega⟩, ?_⟩
            rw [rh_set_a (by decide)]
            (intro zq hzq; replace hzq := hzq.symm; subst hzq)
            refine ⟨⟨by omega, by omega⟩, ⟨by omega, by omega⟩, ⟨by omega, by omega⟩, ?_⟩
            rw [rh_set_a (by decide), rh_set_a (by decide)]
            exact HH
          · (intro zq hzq; replace hzq := hzq.symm; subst hzq)
            refine ⟨⟨by omega, by omega⟩, ⟨by omega, by omega⟩, ?_⟩
            rw [rh_set_a (by decide)]
            (intro zq hzq; replace hzq := hzq.symm; subst hzq)
            refine ⟨⟨by omega, by omega⟩, ⟨by omega, by omega⟩, ⟨by omega, by omega⟩, ?_⟩
            rw [rh_set_a (by decide), rh_set_a (by decide)]
            exact HH
        · have HH := E2 P HP
          rw [hY1] at HH
          rw [q2, q3] at mv
          refine rh1.of (rX32_putHit_5 hm _ _ _ ?_)
          rw [y9, y0]
          refine ⟨fun _ => ⟨⟨by omega, by omega⟩, fun c => ⟨⟨by omega, by omega⟩, fun _ => ⟨by omega, by omega⟩, fun c2 => ⟨⟨by omega, by omega⟩, ⟨by omega, by omega⟩, ?_⟩, fun c2 => absurd mv (fun z => z.elim (fun a => a c) (fun a => c2 ⟨a.1.symm, a.2⟩))⟩, fun c => ⟨⟨by omega, by omega⟩, ⟨by omega, by omega⟩, ?_⟩⟩, fun z => by omega⟩
          · (intro zq hzq; replace hzq := hzq.symm; subst hzq)
            refine ⟨⟨by omega, by omega⟩, ⟨by omega, by omega⟩, ?_⟩
            rw [rh_set_a (by decide)]
            (intro zq hzq; replace hzq := hzq.symm; subst hzq)
            refine ⟨⟨by omega, by omega⟩, ⟨by omega, by omega⟩, ⟨by omega, by omega⟩, ?_⟩
            rw [rh_set_a (by decide), rh_set_a (by decide)]
            exact HH
          · (intro zq hzq; replace hzq := hzq.symm; subst hzq)
            refine ⟨⟨by omega, by omega⟩, ⟨by omega, by omega⟩, ?_⟩
            rw [rh_set_a (by decide)]
            (intro zq hzq; replace hzq := hzq.symm; subst hzq)
            refine ⟨⟨by omega, by omega⟩, ⟨by omega, by omega⟩, ⟨by omega, by omega⟩, ?_⟩
            rw [rh_set_a (by decide), rh_set_a (by decide)]
            exact HH
      · refine ⟨_, _, fun P HP => ?_, fun P HP => ?_, fin t X Y (by omega) th x5 y5 y9 y0 hx, rh_set_s _ _ _ _, ((frx.rf.st (by omega)).st (by omega)).st (by omega), (((frx.rf.st (by omega)).st (by omega)).st (by omega)).st (by omega)⟩
        · refine rh1.of (rX21_insert_13 hh _ _ _ _ _ ?_)
          exact ⟨fun _ => ⟨⟨by omega, by omega⟩, fun c => ⟨⟨by omega, by omega⟩, fun _ => ⟨by omega, by omega⟩, fun c2 => absurd (.inr c2) mv, fun c2 => ⟨⟨by omega, by omega⟩, ⟨by omega, by omega⟩, ⟨by omega, by omega⟩, HP⟩⟩, fun c => absurd (.inl c) mv⟩, fun z => by omega⟩
        · rw [q2, q3] at mv
          refine rh1.of (rX32_putHit_5 hm _ _ _ ?_)
          rw [y9, y0]
          refine ⟨fun _ => ⟨⟨by omega, by omega⟩, fun c => ⟨⟨by omega, by omega⟩, fun _ => ⟨by omega, by omega⟩, fun c2 => absurd (.inr ⟨c2.1.symm, c2.2⟩) mv, fun c2 => ⟨⟨by omega, by omega⟩, ?_⟩⟩, fun c => absurd (.inl c) mv⟩, fun z => by omega⟩
          rw [rh_set_a (by decide), y9]
          (intro zq hzq; replace hzq := hzq.symm; subst hzq)
          refine ⟨⟨by omega, by omega⟩, ?_⟩
          (intro zq hzq; replace hzq := hzq.symm; subst hzq)
          rw [rh_set_a (by decide), rh_set_a (by decide), y0]
          refine ⟨⟨by omega, by omega⟩, ?_⟩
          (intro zq hzq; replace hzq := hzq.symm; subst hzq)
          rw [rh_set_a (by decide), rh_set_a (by decide), rh_set_a (by decide), y5]
          exact ⟨⟨by omega, by omega⟩, HP⟩
  obtain ⟨A', B', E1, E2, E3, E4, f1, g1⟩ := key h.toNat h (rh_set A 98 5 (h + 1)) B (by omega) (Int.le_refl _) (rh_set_s _ _ _ _) hb bp bm (fun i i0 i1 ne => by
    rw [rh_set_a (by decide), rh_set_a (by decide), rh_set_a (by decide)]
    exact r2 i i0 (by omega))
  refine ⟨A', B', eC.of1 (rC1.of (by decide) (LE0 rfl) ?_), eC.of1 (rC1.of (by decide) (LE0 rfl) ?_), E3, E4, (frx.rf.st (.inl ⟨rfl, rfl⟩)).tr (f1.w (fun c j h => .inr h)), g1⟩
  · refine rh1.of (rX21_insert_0 hh _ _ _ _ ?_)
    rw [r1.1]
    exact ⟨⟨by omega, by omega⟩, E1 _ ⟨rfl, rfl⟩⟩
  · refine rh1.of (rX32_putHit_0 hm _ _ ?_)
    rw [hb]
    exact E2 _ ⟨rfl, rfl⟩
def Ffd (c j : Int) : Prop := (c = 98 ∧ j = 5) ∨ (103 ≤ c ∧ c ≤ 105)
def Gfd (c j : Int) : Prop := (c = 0 ∧ (j = 195 ∨ j = 199 ∨ j = 200)) ∨ (154 ≤ c ∧ c ≤ 156)
theorem Fpz.c {B X : rhM} (f : frx Fpz B X) : ∀ c, c ≠ 0 → X c = B c := fun c hc => funext (fun j => f c j (by unfold Fpz; omega))
theorem pcv_f {B X : rhM} (f : frx Fpz B X) (k a bg : Int) : pcv X k a bg = pcv B k a bg := by
  have e := Fpz.c f
  unfold pcv Txt
  rw [e 150 (by decide), e 149 (by decide), e 70 (by decide), e 71 (by decide), e 151 (by decide), e 152 (by decide), e 153 (by decide), e 1 (by decide)]
theorem Aw_f {A B X : rhM} {len i : Int} (f : frx Fpz B X) (W : Aw A B (B 1) len i) : Aw A X (X 1) len i := by
  have e := Fpz.c f
  unfold Aw at W ⊢
  rw [e 70 (by decide), e 71 (by decide), e 1 (by decide)]
  exact W
theorem Rht.fx {A B A' B' : rhM} (R : Rht A B) (f : ∀ c j, Ffd c j → A' c j = A c j) (g5 : B' 0 195 = B 0 195) (g : ∀ c j, 154 ≤ c → c ≤ 156 → B' c j = B c j) : Rht A' B' := by
  obtain ⟨r1, r2⟩ := R
  unfold Rht
  rw [f 98 5 (by unfold Ffd; omega), g5]
  refine ⟨r1, fun i i0 i1 => ?_⟩
  rw [f 103 i (by unfold Ffd; omega), f 104 i (by unfold Ffd; omega), f 105 i (by unfold Ffd; omega), g 154 i (by decide) (by decide), g 155 i (by decide) (by decide), g 156 i (by decide) (by decide)]
  exact r2 i i0 i1
theorem t_look (hh : rh_hs wh) (hm : rh_ms wm) {A B : rhM} {s k w len h mode : Int} (hs : 0 ≤ s ∧ s < 12) (hk : 0 ≤ k ∧ k < 12) (kn : k < B 0 186) (hw : 1 ≤ w ∧ w ≤ 12) (hl : len ≤ 4096) (hmo : 0 ≤ mode ∧ mode ≤ 3) (a4 : A 98 4 = w) (b9 : B 0 99 = w) (D : Dcr A B (106 + 8 * s) k) (W : ∀ a, 0 ≤ a → a < w → Aw A B (B 1) len a) (R : Rht A B) (hb : B 0 195 = h) (h12 : h < 12) :
    ∃ A' B', eC wh YX21_look 4 [(2, 98), (2, 106 + 8 * s), (0, mode)] A 0 A' ∧ (∀ P : Int → rhM → Prop, rh1 wm YX32_find 3 53 [(0, 2, 0), (1, 0, mode), (2, 0, k + 1)] [] B' P → rh1 wm YX32_find 3 53 [(0, 2, 0), (1, 0, mode), (2, 0, k)] [] B P) ∧ Rht A' B' ∧ (B' 0 195 ≤ h + 1) ∧ frx Ffd A A' ∧ frx Gfd B B' := by
  have hdc := hs_dc hh hs.1 hs.2
  obtain ⟨d1, d2, d3, d4⟩ := D
  obtain ⟨nw, hnw⟩ : ∃ nw, B 148 k = nw := ⟨_, rfl⟩
  rw [hnw] at d2 d3 d4
  obtain ⟨bg, hbg⟩ : ∃ bg, bg = rh_if (mode = 2) (1 : Int) 0 := ⟨_, rfl⟩
  obtain ⟨many, hmy⟩ : ∃ many, many = rh_if (mode = 2) (1 : Int) w := ⟨_, rfl⟩
  have mb : (1 ≤ many ∧ many ≤ 12) ∧ many ≤ w ∧ (mode ≠ 2 → many = w) ∧ (mode = 2 → many = 1) := by
    rw [hmy]
    by_cases q : mode = 2
    · rw [rh_if_t q]; omega
    · rw [rh_if_f q]; omega
  have gb : ∀ a, 0 ≤ a → a < many → okP (bst (fun i => pcv B (80 * k + i) a bg) nw.toNat 0 (-1)) := fun a a0 a1 => (bst_b nw.toNat 0 (-1) (fun j j0 j1 => pcv_b (d4 j j0 (by omega))) (.inl rfl)).1
  have KB : ∀ a, 0 ≤ a → a < many → eC wh YX22_best 3 [(2, 106 + 8 * s), (2, 100), (0, a), (0, rh_if (mode = 2) 1 0)] A (bst (fun i => pcv B (80 * k + i) a bg) nw.toNat 0 (-1)) A ∧ okP (bst (fun i => pcv B (80 * k + i) a bg) nw.toNat 0 (-1)) := fun a a0 a1 => by
    have K := c_best hh (a := a) (bg := bg) hs ⟨by omega, by omega⟩ d2 d3 d4 (W a a0 (by omega))
    rw [hbg] at K ⊢
    exact ⟨K, by rw [← hbg]; exact gb a a0 a1⟩
  obtain ⟨g, hg⟩ : ∃ g : Int → Int, g = fun a => bst (fun i => pcv B (80 * k + i) a bg) nw.toNat 0 (-1) := ⟨_, rfl⟩
  have KG : ∀ a, 0 ≤ a → a < many → eC wh YX22_best 3 [(2, 106 + 8 * s), (2, 100), (0, a), (0, rh_if (mode = 2) 1 0)] A (g a) A ∧ okP (g a) := by rw [hg]; exact KB
  have EL := h_lookS hh (mode := mode) (g := g) hdc ⟨by omega, by omega⟩ KG many.toNat 0 (by omega)
  have lb := ls_b (g := g) many.toNat (fun j j0 j1 => (KG j j0 (by omega)).2)
  have startH : ∀ P : Int → rhM → Prop, rh1 wh YX21_look 4 23 [(0, 2, 98), (1, 2, 106 + 8 * s), (2, 0, mode), (3, 0, lsS g many.toNat), (4, 0, lsH g many.toNat), (5, 0, many), (6, 0, many)] [] A P → rh1 wh YX21_look 4 0 [(0, 2, 98), (1, 2, 106 + 8 * s), (2, 0, mode)] [] A P := fun P HP => by
    refine rh1.of (rX21_look_0 hh _ _ _ hdc ?_)
    rw [a4, ← hmy]
    (intro zq hzq; replace hzq := hzq.symm; subst hzq)
    exact rh1.s EL HP
  -- inserting on both sides
  have ins : ∀ (X : rhM) (p m : Int), frx Fpz B X → X 0 199 = p → X 0 200 = m → ∃ A' B', eC wh YX21_insert 0 [(2, 98), (0, B 147 k), (0, p), (0, m)] A 0 A' ∧ eC wm YX32_putHit 0 [(2, 0), (0, B 147 k)] X 0 B' ∧ Rht A' B' ∧ (B' 0 195 ≤ h + 1) ∧ frx Ffd A A' ∧ frx Gfd B B' := fun X p m fX x1 x2 => by
    have RX : Rht A X := R.fx (fun _ _ _ => rfl) (fX 0 195 (by unfold Fpz; omega)) (fun c j c0 c1 => fX c j (by unfold Fpz; omega))
    obtain ⟨A', B', K1, K2, K3, K4, f1, g1⟩ := t_insert hh hm (h := h) (nu := B 147 k) RX (by rw [fX 0 195 (by unfold Fpz; omega)]; exact hb) h12 x1 x2
    exact ⟨A', B', K1, K2, K3, by omega, f1, (fX.w (fun c j h => by unfold Fpz at h; unfold Gfd; omega)).tr (g1.w (fun c j h => by unfold Gfd; omega))⟩
  have RB : ∀ X : rhM, frx Fpz B X → Rht A X ∧ X 0 195 ≤ h + 1 ∧ frx Gfd B X := fun X fX => ⟨R.fx (fun _ _ _ => rfl) (fX 0 195 (by unfold Fpz; omega)) (fun c j c0 c1 => fX c j (by unfold Fpz; omega)), by rw [fX 0 195 (by unfold Fpz; omega)]; omega, fX.w (fun c j h => by unfold Fpz at h; unfold Gfd; omega)⟩
  by_cases m3 : mode = 3
  · have mw : many = w := mb.2.2.1 (by omega)
    have bg0 : bg = 0 := by rw [hbg, rh_if_f (by omega)]
    obtain ⟨c, B1, KR, KP, fB1, alt⟩ := t_row hh hm (A := A) (B := B) (k := k) (w := w) (nw := nw) (f := fun i a => pcv B (80 * k + i) a 0) hdc hk hw d3 d2 hnw b9 (fun i a i0 i1 a0 a1 => ⟨c_dprice hh hs ⟨by omega, by omega⟩ ⟨by omega, by omega⟩ (d4 i i0 i1) (W a a0 a1), pcv_b (d4 i i0 i1)⟩) (fun X fX i a i0 i1 a0 a1 => by
      have WX := Aw_f fX (W a a0 a1)
      have := c_priceAt hm (k0 := 80 * k + i) (a := a) (bg := 0) ⟨by omega, by omega⟩ ⟨by omega, by omega⟩ X WX.2.1 (by have := WX.2.2.1; exact ⟨by omega, by omega⟩)
      rwa [pcv_f fX] at this)
    have goM : ∀ P : Int → rhM → Prop, rh1 wm YX32_find 3 71 [(0, 2, 0), (1, 0, mode), (2, 0, k)] [] B1 P → rh1 wm YX32_find 3 53 [(0, 2, 0), (1, 0, mode), (2, 0, k)] [] B P := fun P HP => by
      refine rh1.of (rX32_find_53 hm _ _ _ ?_)
      exact ⟨fun _ => ⟨fun _ => rh1.s (vX32_find_68 hm KP (LE0 rfl)) HP, fun z => absurd m3 z⟩, fun z => absurd kn z⟩
    rcases alt with ⟨c1, b0⟩ | ⟨c1, b1, b2, i, i0, i1, ok⟩
    · refine ⟨A, B1, eC.of1 (rC1.of (by decide) (LE0 rfl) (startH _ ?_)), fun P HP => goM P ?_, (RB B1 fB1).1, (RB B1 fB1).2.1, frx.rf, (RB B1 fB1).2.2⟩
      · refine rh1.of (rX21_look_23 hh _ _ _ _ _ _ _ hdc ?_)
        rw [mw]
        refine ⟨fun z => by omega, fun _ => ?_⟩
        intro y hy
        refine ⟨fun _ => ?_, fun z => absurd m3 z⟩
        refine rh1.s (vX21_look_133 hdc KR (LE0 rfl)) ?_
        refine rh1.of (rX21_look_136 hh _ _ _ _ hdc ?_)
        intro y2 hy2
        rw [rh_if_f (fun z => z c1)] at hy2
        exact ⟨fun z => absurd hy2 z, fun _ => ⟨rfl, rfl⟩⟩
      · refine rh1.of (rX32_find_71 hm _ _ _ ?_)
        rw [b0]
        exact ⟨fun z => by omega, fun _ => ⟨fun z => by omega, fun _ => ⟨⟨by omega, by omega⟩, HP⟩⟩⟩
    · have hH : lsH g many.toNat = w := by
        have := lb.2.2 (fun j j0 j1 => ?_)
        · omega
        · rw [hg]
          intro z
          have z2 := ((bst_b (f := fun i => pcv B (80 * k + i) j bg) nw.toNat 0 (-1) (fun t t0 t1 => pcv_b (d4 t t0 (by omega))) (.inl rfl)).2.mp z).2 (i + j) (by omega) (by omega)
          rw [bg0] at z2
          exact ok j j0 (by omega) z2
      obtain ⟨A', B', K1, K2, K3, K4, f1, g1⟩ := ins B1 c w fB1 b1 b2
      refine ⟨A', B', eC.of1 (rC1.of (by decide) (LE0 rfl) (startH _ ?_)), fun P HP => goM P ?_, K3, K4, f1, g1⟩
      · refine rh1.of (rX21_look_23 hh _ _ _ _ _ _ _ hdc ?_)
        rw [mw]
        refine ⟨fun z => by omega, fun _ => ?_⟩
        intro y hy
        refine ⟨fun _ => ?_, fun z => absurd m3 z⟩
        refine rh1.s (vX21_look_133 hdc KR (LE0 rfl)) ?_
        refine rh1.of (rX21_look_136 hh _ _ _ _ hdc ?_)
        intro y2 hy2
        rw [rh_if_t (show c ≠ -1 by omega)] at hy2
        refine ⟨fun _ => ?_, fun z => absurd (show y2 ≠ 0 by omega) z⟩
        rw [d1]
        rw [mw] at hH
        rw [hH]
        refine rh1.s (vX21_look_162 hh K1 (LE0 rfl)) ?_
        refine rh1.of (rX21_look_165 hh _ ?_)
        exact ⟨rfl, rfl⟩
      · refine rh1.of (rX32_find_71 hm _ _ _ ?_)
        rw [b2]
        refine ⟨fun z => by omega, fun _ => ⟨fun _ => ⟨hk, ?_⟩, fun z => by omega⟩⟩
        rw [fB1 147 _ (by unfold Fpz; omega)]
        refine rh1.s (vX32_find_134 hm K2 (LE0 rfl)) ?_
        refine rh1.of (rX32_find_137 hm _ _ _ ?_)
        exact ⟨⟨by omega, by omega⟩, HP⟩
  · obtain ⟨B1, KP, fB1, b1, b2⟩ := m_words hm (B := B) (k := k) (w := many) (bg := bg) (nw := nw) (g := g) hk ⟨by omega, by omega⟩ hnw d3.1 (fun q q0 q1 => ⟨(KG q q0 q1).2, fun X fX => by
      have WX := Aw_f fX (W q q0 (by omega))
      have E := m_best hm (x := 0) (k := k) (w := many) (bg := bg) (q := q) (nw := nw) (len := len) hk ⟨by omega, by omega⟩ (by rw [fX 148 _ (by omega)]; exact hnw) d3.2 hl WX nw.toNat 0 (-1) (by omega) (by decide)
      have eg : g q = bst (fun i => pcv X (80 * k + i) q bg) nw.toNat 0 (-1) := by
        rw [hg]
        show bst (fun i => pcv B (80 * k + i) q bg) nw.toNat 0 (-1) = _
        congr 1
        funext i
        exact (pcv_f fX _ _ _).symm
      rw [eg]
      exact E⟩)
    have goM : ∀ P : Int → rhM → Prop, rh1 wm YX32_find 3 102 [(0, 2, 0), (1, 0, mode), (2, 0, k)] [] B1 P → rh1 wm YX32_find 3 53 [(0, 2, 0), (1, 0, mode), (2, 0, k)] [] B P := fun P HP => by
      refine rh1.of (rX32_find_53 hm _ _ _ ?_)
      rw [b9, ← hmy, ← hbg]
      exact ⟨fun _ => ⟨fun z => absurd z m3, fun _ => rh1.s (vX32_find_99 hm KP (LE0 rfl)) HP⟩, fun z => absurd kn z⟩
    obtain ⟨S, hS⟩ : ∃ S, S = lsS g many.toNat := ⟨_, rfl⟩
    obtain ⟨H, hH⟩ : ∃ H, H = lsH g many.toNat := ⟨_, rfl⟩
    rw [← hS] at b1
    rw [← hH] at b2
    rw [← hS, ← hH] at startH
    rw [← hH] at lb
    have hb9 : B1 0 99 = w := by rw [fB1 0 99 (by omega)]; exact b9
    by_cases is : (mode = 1 ∧ 0 < H) ∨ (mode ≠ 1 ∧ H = many)
    · obtain ⟨A', B', K1, K2, K3, K4, f1, g1⟩ := ins B1 S H fB1 b1 b2
      refine ⟨A', B', eC.of1 (rC1.of (by decide) (LE0 rfl) (startH _ ?_)), fun P HP => goM P ?_, K3, K4, f1, g1⟩
      · refine rh1.of (rX21_look_23 hh _ _ _ _ _ _ _ hdc ?_)
        refine ⟨fun z => by omega, fun _ => ?_⟩
        intro y hy
        have ey : y = 1 := by
          rw [hy]
          rcases is with i | i
          · rw [rh_if_t i.1, rh_if_t i.2]
          · rw [rh_if_f i.1, rh_if_t i.2]
        refine ⟨fun z => absurd z m3, fun _ => ⟨fun _ => ?_, fun z => absurd (show y ≠ 0 by omega) z⟩⟩
        rw [d1]
        refine rh1.s (vX21_look_162 hh K1 (LE0 rfl)) ?_
        refine rh1.of (rX21_look_165 hh _ ?_)
        exact ⟨rfl, rfl⟩
      · have nx : ∀ P : Int → rhM → Prop, rh1 wm YX32_find 3 53 [(0, 2, 0), (1, 0, mode), (2, 0, k + 1)] [] B' P → rh1 wm YX32_find 3 134 [(0, 2, 0), (1, 0, mode), (2, 0, k)] [(0, B1 147 k), (2, 0)] B1 P := fun P HP => by
          rw [fB1 147 _ (by omega)]
          refine rh1.s (vX32_find_134 hm K2 (LE0 rfl)) ?_
          refine rh1.of (rX32_find_137 hm _ _ _ ?_)
          exact ⟨⟨by omega, by omega⟩, HP⟩
        refine rh1.of (rX32_find_102 hm _ _ _ ?_)
        rw [b2, hb9]
        refine ⟨fun z => ⟨fun _ => ⟨hk, nx P HP⟩, fun z2 => by omega⟩, fun z => ⟨fun _ => ⟨hk, nx P HP⟩, fun z2 => by omega⟩⟩
    · refine ⟨A, B1, eC.of1 (rC1.of (by decide) (LE0 rfl) (startH _ ?_)), fun P HP => goM P ?_, (RB B1 fB1).1, (RB B1 fB1).2.1, frx.rf, (RB B1 fB1).2.2⟩
      · refine rh1.of (rX21_look_23 hh _ _ _ _ _ _ _ hdc ?_)
        refine ⟨fun z => by omega, fun _ => ?_⟩
        intro y hy
        have ey : y = 0 := by
          rw [hy]
          by_cases q : mode = 1
          · rw [rh_if_t q, rh_if_f (fun z => is (.inl ⟨q, z⟩))]
          · rw [rh_if_f q, rh_if_f (fun z => is (.inr ⟨q, z⟩))]
        exact ⟨fun z => absurd z m3, fun _ => ⟨fun z => absurd ey z, fun _ => ⟨rfl, rfl⟩⟩⟩
      · refine rh1.of (rX32_find_102 hm _ _ _ ?_)
        rw [b2, hb9]
        refine ⟨fun z => ⟨fun z2 => by omega, fun _ => ⟨⟨by omega, by omega⟩, HP⟩⟩, fun z => ⟨fun z2 => by omega, fun _ => ⟨⟨by omega, by omega⟩, HP⟩⟩⟩
def Ffn (c j : Int) : Prop := Ftp c j ∨ (c = 98 ∧ (j = 4 ∨ j = 5)) ∨ (101 ≤ c ∧ c ≤ 105)
def Gfn (c j : Int) : Prop := (c = 0 ∧ (j = 0 ∨ j = 2 ∨ j = 99 ∨ j = 195 ∨ j = 199 ∨ j = 200)) ∨ c = 70 ∨ c = 71 ∨ (154 ≤ c ∧ c ≤ 156)
theorem op_find (hh : rh_hs wh) (hm : rh_ms wm) {Mh Mm : rhM} {N : Int} (T : Rtp Mh Mm) (D : Rar Mh Mm N) (R : Rht Mh Mm) (x1 : Int) : rC2 wh YX1_find 6 [(2, 0), (0, x1)] Mh wm YX32_find 3 [(2, 0), (0, x1)] Mm (fun r M' r2 M2' => r = r2 ∧ Rtp M' M2' ∧ Rht M' M2' ∧ frx Ffn Mh M' ∧ frx Gfn Mm M2') := by
  refine rC2.of (by decide) (LE0 rfl) (by decide) (LE0 rfl) ?_
  obtain ⟨d1, d2, ⟨s, d3, d4⟩, d5, d6⟩ := D
  obtain ⟨M0, hM0⟩ : ∃ M0, M0 = rh_set Mm 0 0 0 := ⟨_, rfl⟩
  have en : ∀ c k, 0 < c → M0 c k = Mm c k := fun c k h => by rw [hM0]; exact rh_set_a (by omega)
  have T0 : Rtp Mh M0 := by rw [hM0]; exact T.n0
  have g0 : frx Gfn Mm M0 := by rw [hM0]; exact frx.rf.st (by unfold Gfn; omega)
  have R0 : Rht Mh M0 := R.fx (fun _ _ _ => rfl) (by rw [hM0]; exact rh_set_j (by decide)) (fun c j c0 _ => en c j (by omega))
  refine rh2.l (rX1_find_0 hh _ _ ?_)
  refine ⟨fun c => ?_, fun c => ?_⟩
  · refine rh1.of (rX32_find_0 hm _ _ ?_)
    rw [← hM0]
    exact ⟨fun _ => ⟨rfl, T0, R0, frx.rf, g0⟩, fun z => absurd c z⟩
  have c' : 0 ≤ x1 ∧ x1 ≤ 3 := Classical.byContradiction c
  obtain ⟨r, q, A1, B1, KA, KB, f1, g1, alt⟩ := t_ask hh hm T0
  have goM : ∀ P : Int → rhM → Prop, rh1 wm YX32_find 3 28 [(0, 2, 0), (1, 0, x1)] [(0, q)] B1 P → rh1 wm YX32_find 3 0 [(0, 2, 0), (1, 0, x1)] [] Mm P := fun P HP => by
    refine rh1.of (rX32_find_0 hm _ _ ?_)
    rw [← hM0]
    exact ⟨fun z => absurd z c, fun _ => rh1.s (vX32_find_25 hm KB (LE0 rfl)) HP⟩
  have fA1 : frx Ffn Mh A1 := f1.w (fun c j h => by unfold Fas at h; unfold Ffn Ftp; omega)
  have gB1 : frx Gfn Mm B1 := g0.tr (g1.w (fun c j h => by unfold Gsp at h; unfold Gfn; omega))
  refine rh2.sl (vX1_find_23 hh KA (LE0 rfl)) ?_
  refine rh2.l (rX1_find_26 hh _ _ _ ?_)
  rcases alt with ⟨rfl, bad⟩ | ⟨rfl, rfl, e4, wb, AW⟩
  · refine ⟨fun z => absurd rfl z, fun _ => goM _ ?_⟩
    refine rh1.of (rX32_find_28 hm _ _ _ ?_)
    refine ⟨fun _ => ⟨rfl, Rtp.use (Mh := Mh) (Mm := Mm) (rh_set_s _ _ _ _) (rh_set_s _ _ _ _), R0.fx (fun c j h => ?_) ?_ (fun c j c0 c1 => ?_), fA1.st (by unfold Ffn Ftp; omega), gB1.st (by unfold Gfn; omega)⟩, fun z => absurd bad z⟩
    · unfold Ffd at h
      rw [rh_set_a (by omega)]
      exact f1 c j (by unfold Fas; omega)
    · rw [rh_set_j (by decide)]; exact g1 0 195 (by unfold Gsp; omega)
    · rw [rh_set_a (by omega)]; exact g1 c j (by unfold Gsp; omega)
  · refine ⟨fun _ => ?_, fun z => absurd (show (1 : Int) ≠ 0 by decide) z⟩
    obtain ⟨w, hw⟩ : ∃ w, B1 0 99 = w := ⟨_, rfl⟩
    rw [hw] at e4 wb AW
    obtain ⟨n, hn⟩ : ∃ n, Mm 0 186 = n := ⟨_, rfl⟩
    rw [hn] at d1 d5
    obtain ⟨A2, hA2⟩ : ∃ A2, A2 = rh_set (rh_set A1 1 2 0) 98 5 0 := ⟨_, rfl⟩
    obtain ⟨B2, hB2⟩ : ∃ B2, B2 = rh_set B1 0 195 0 := ⟨_, rfl⟩
    have fA2 : frx Ffn Mh A2 := by rw [hA2]; exact (fA1.st (by unfold Ffn Ftp; omega)).st (by unfold Ffn; omega)
    have gB2 : frx Gfn Mm B2 := by rw [hB2]; exact gB1.st (by unfold Gfn; omega)
    have t0 := T0.2.2.1
    have e12 : M0 1 = B2 1 := funext (fun j => by rw [hB2, rh_set_a (by decide)]; exact (g1 1 j (by unfold Gsp; omega)).symm)
    -- all documents
    have key : ∀ (u : Nat) (k : Int) (A B : rhM), k + u = n → 0 ≤ k → frx Ffd A2 A → frx Gfd B2 B → Rht A B → B 0 195 ≤ k → ∃ v A' B', (∀ P : Int → rhM → Prop, P v A' → rh1 wh YX21_find 5 7 [(0, 2, 98), (1, 0, x1), (2, 0, k)] [] A P) ∧ (∀ P : Int → rhM → Prop, P v (rh_set B' 0 2 0) → rh1 wm YX32_find 3 53 [(0, 2, 0), (1, 0, x1), (2, 0, k)] [] B P) ∧ frx Ffd A2 A' ∧ frx Gfd B2 B' ∧ Rht A' B' := by
      intro u
      induction u with
      | zero =>
        intro k A B hk k0 fA fB RR hB
        refine ⟨B 0 195, A, B, fun P HP => ?_, fun P HP => ?_, fA, fB, RR⟩
        · refine rh1.of (rX21_find_7 hh _ _ _ ?_)
          rw [fA 98 1 (by unfold Ffd; omega), fA2 98 1 (by unfold Ffn Ftp; omega), d1.1, RR.1.1]
          exact ⟨fun z => by omega, fun _ => HP⟩
        · refine rh1.of (rX32_find_53 hm _ _ _ ?_)
          rw [fB 0 186 (by unfold Gfd; omega), gB2 0 186 (by unfold Gfn; omega), hn]
          exact ⟨fun z => by omega, fun _ => HP⟩
      | succ u ih =>
        intro k A B hk k0 fA fB RR hB
        obtain ⟨sb, s9⟩ := d3 k k0 (by omega)
        have e9 : A 99 k = 106 + 8 * s k := by rw [fA 99 _ (by unfold Ffd; omega), fA2 99 _ (by unfold Ffn Ftp; omega)]; exact s9
        have DK := (d5 k k0 (by omega)).1
        rw [s9] at DK
        have DK2 : Dcr A B (106 + 8 * s k) k := DK.fx (fun c j c0 c1 => by rw [fA c j (by unfold Ffd; omega)]; exact fA2 c j (by unfold Ffn Ftp; omega)) (by rw [fB 147 _ (by unfold Gfd; omega)]; exact gB2 147 _ (by unfold Gfn; omega)) (by rw [fB 148 _ (by unfold Gfd; omega)]; exact gB2 148 _ (by unfold Gfn; omega)) (fun c j c0 c1 _ _ => by rw [fB c j (by unfold Gfd; omega)]; exact gB2 c j (by unfold Gfn; omega))
        have eB1 : B 1 = M0 1 := by
          rw [e12]
          exact funext (fun j => fB 1 j (by unfold Gfd; omega))
        have AWk : ∀ a, 0 ≤ a → a < w → Aw A B (B 1) (M0 0 2) a := fun a a0 a1 => by
          rw [eB1]
          refine (AW a a0 a1).fx (Int.le_refl _) ?_ (fun t t0 t1 => ?_) ?_ ?_
          · rw [fA 102 _ (by unfold Ffd; omega), hA2, rh_set_a (by decide), rh_set_a (by decide)]
          · rw [fA 101 _ (by unfold Ffd; omega), hA2, rh_set_a (by decide), rh_set_a (by decide)]
          · rw [fB 70 _ (by unfold Gfd; omega), hB2, rh_set_a (by decide)]
          · rw [fB 71 _ (by unfold Gfd; omega), hB2, rh_set_a (by decide)]
        obtain ⟨A', B', KL, EM, R', h', f', g'⟩ := t_look hh hm (A := A) (B := B) (s := s k) (k := k) (w := w) (len := M0 0 2) (h := B 0 195) (mode := x1) sb ⟨by omega, by omega⟩ (by rw [fB 0 186 (by unfold Gfd; omega), gB2 0 186 (by unfold Gfn; omega), hn]; omega) wb t0 c' (by rw [fA 98 4 (by unfold Ffd; omega), hA2, rh_set_j (by decide), rh_set_a (by decide)]; exact e4) (by rw [fB 0 99 (by unfold Gfd; omega), hB2, rh_set_j (by decide)]; exact hw) DK2 AWk RR rfl (by omega)
        obtain ⟨v, A3, B3, E1, E2, E3⟩ := ih (k + 1) A' B' (by omega) (by omega) (fA.tr f') (fB.tr g') R' (by omega)
        refine ⟨v, A3, B3, fun P HP => ?_, fun P HP => EM P (E2 P HP), E3⟩
        refine rh1.of (rX21_find_7 hh _ _ _ ?_)
        rw [fA 98 1 (by unfold Ffd; omega), fA2 98 1 (by unfold Ffn Ftp; omega), d1.1, e9]
        refine ⟨fun _ => ⟨⟨by omega, by omega⟩, ?_⟩, fun z => by omega⟩
        refine rh1.s (vX21_find_23 hh KL (LE0 rfl)) ?_
        refine rh1.of (rX21_find_26 hh _ _ _ ?_)
        exact ⟨⟨by omega, by omega⟩, E1 P HP⟩
    obtain ⟨v, A3, B3, E1, E2, f3, g3, R3⟩ := key n.toNat 0 A2 B2 (by omega) (by decide) frx.rf frx.rf ⟨by rw [hA2, hB2, rh_set_s, rh_set_s]; decide, fun i i0 i1 => by rw [hB2, rh_set_s] at i1; omega⟩ (by rw [hB2, rh_set_s]; decide)
    have KF : eC wh YX21_find 5 [(2, 98), (0, x1)] (rh_set A1 1 2 0) v A3 := eC.of1 (rC1.of (by decide) (LE0 rfl) (by
      refine rh1.of (rX21_find_0 hh _ _ ?_)
      rw [← hA2]
      exact E1 _ ⟨rfl, rfl⟩))
    refine rh2.sl (vX1_find_44 hh KF (LE0 rfl)) ?_
    refine rh2.l (rX1_find_47 hh _ _ ?_)
    refine goM _ ?_
    refine rh1.of (rX32_find_28 hm _ _ _ ?_)
    rw [hw, ← hB2]
    refine ⟨fun z => by omega, fun _ => E2 _ ⟨rfl, Rtp.use (Mh := Mh) (Mm := Mm) ?_ (rh_set_s _ _ _ _), R3.fx (fun _ _ _ => rfl) (rh_set_j (by decide)) (fun c j c0 c1 => rh_set_a (by omega)), fA2.tr (f3.w (fun c j h => by unfold Ffd at h; unfold Ffn; omega)), (gB2.tr (g3.w (fun c j h => by unfold Gfd at h; unfold Gfn; omega))).st (by unfold Gfn; omega)⟩⟩
    rw [f3 1 2 (by unfold Ffd; omega), hA2, rh_set_a (by decide), rh_set_s]
end Find
