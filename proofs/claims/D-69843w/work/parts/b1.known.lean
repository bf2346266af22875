/-! ===== LAYER 2: rows of words, find, known, listed ===== -/
section Known
variable {wh wm : rhW}
theorem c_get (hh : rh_hs wh) {x m i k : Int} (hx : rh_bl wh 4 x m) (M : rhM) (h : 0 ≤ 12 * i + k ∧ 12 * i + k < 12 * m) : eC wh YX19_get 0 [(2, x), (0, i), (0, k)] M (M (x + 1) (12 * i + k)) M :=
  eC.of1 (rC1.of (by decide) (LE0 rfl) (by
    refine rh1.of (rX19_get_0 hh _ _ _ _ _ hx ?_)
    exact ⟨h, rfl, rfl⟩))
/-- the order of two words -/
def owd (A B : Int → Int) (d : Int) : Nat → Int → Int
  | 0, _ => d
  | n + 1, k => if A k - B k = 0 then owd A B d n (k + 1) else A k - B k
theorem owd_z {A B : Int → Int} {d : Int} : ∀ (n : Nat) (k : Int), owd A B d n k = 0 ↔ d = 0 ∧ ∀ j, k ≤ j → j < k + n → A j = B j
  | 0, k => ⟨fun h => ⟨h, fun j j0 j1 => by omega⟩, fun h => h.1⟩
  | n + 1, k => by
    simp only [owd]
    by_cases q : A k - B k = 0
    · rw [if_pos q, owd_z n (k + 1)]
      refine ⟨fun h => ⟨h.1, fun j j0 j1 => ?_⟩, fun h => ⟨h.1, fun j j0 j1 => h.2 j (by omega) (by omega)⟩⟩
      by_cases e : j = k
      · rw [e]; omega
      · exact h.2 j (by omega) (by omega)
    · rw [if_neg q]
      refine ⟨fun h => absurd h q, fun h => ?_⟩
      have := h.2 k (by omega) (by omega)
      omega
theorem c_ord (hh : rh_hs wh) {x m i y m' j na nb : Int} (hx : rh_bl wh 4 x m) (hy : rh_bl wh 4 y m') (hi : 0 ≤ i ∧ i < m) (hj : 0 ≤ j ∧ j < m') (M : rhM) (h1 : M (x + 2) i = na) (h2 : M (y + 2) j = nb) (ba : 0 ≤ na ∧ na ≤ 12) (bb : 0 ≤ nb ∧ nb ≤ 12) (rA : ∀ k, 0 ≤ k → k < na → -128 ≤ M (x + 1) (12 * i + k) ∧ M (x + 1) (12 * i + k) ≤ 127) (rB : ∀ k, 0 ≤ k → k < nb → -128 ≤ M (y + 1) (12 * j + k) ∧ M (y + 1) (12 * j + k) ≤ 127) :
    eC wh YX19_order 1 [(2, x), (0, i), (2, y), (0, j)] M (owd (fun k => M (x + 1) (12 * i + k)) (fun k => M (y + 1) (12 * j + k)) (na - nb) (rh_if (nb < na) nb na).toNat 0) M := by
  refine eC.of1 (rC1.of (by decide) (LE0 rfl) ?_)
  refine rh1.of (rX19_order_0 hh _ _ _ _ _ _ _ hx hy ?_)
  rw [h1, h2]
  refine ⟨hi, hj, ?_⟩
  intro n hn
  rw [← hn]
  have bn : 0 ≤ n ∧ n ≤ na ∧ n ≤ nb := by
    rw [hn]
    by_cases q : nb < na
    · rw [rh_if_t q]; omega
    · rw [rh_if_f q]; omega
  have w : ∀ (u : Nat) (k : Int), k + u = n → 0 ≤ k → rh1 wh YX19_order 1 20 [(0, 2, x), (1, 0, i), (2, 2, y), (3, 0, j), (4, 0, n), (5, 0, k)] [] M (fun r M' => r = owd (fun k => M (x + 1) (12 * i + k)) (fun k => M (y + 1) (12 * j + k)) (na - nb) u k ∧ M' = M) := by
    intro u
    induction u with
    | zero =>
      intro k hk k0
      refine rh1.of (rX19_order_20 hh _ _ _ _ _ _ _ _ _ hx hy ?_)
      rw [h1, h2]
      exact ⟨fun z => by omega, fun _ => ⟨hi, hj, ⟨by omega, by omega⟩, rfl, rfl⟩⟩
    | succ u ih =>
      intro k hk k0
      have r1 := rA k (by omega) (by omega)
      have r2 := rB k (by omega) (by omega)
      refine rh1.of (rX19_order_20 hh _ _ _ _ _ _ _ _ _ hx hy ?_)
      refine ⟨fun _ => ?_, fun z => by omega⟩
      refine rh1.s (vX19_order_31 hx (c_get hh hx M ⟨by omega, by omega⟩) (LE0 rfl)) ?_
      refine rh1.of (rX19_order_34 hh _ _ _ _ _ _ _ _ _ _ hx hy ?_)
      refine rh1.s (vX19_order_38 hy (c_get hh hy M ⟨by omega, by omega⟩) (LE0 rfl)) ?_
      refine rh1.of (rX19_order_41 hh _ _ _ _ _ _ _ _ _ _ _ hx hy ?_)
      refine ⟨⟨by omega, by omega⟩, fun z => ⟨?_, rfl⟩, fun z => ⟨⟨by omega, by omega⟩, ?_⟩⟩
      · simp only [owd]; rw [if_neg z]
      · have e : owd (fun k => M (x + 1) (12 * i + k)) (fun k => M (y + 1) (12 * j + k)) (na - nb) (u + 1) k = owd (fun k => M (x + 1) (12 * i + k)) (fun k => M (y + 1) (12 * j + k)) (na - nb) u (k + 1) := by
          simp only [owd]; rw [if_pos (by omega)]
        rw [e]
        exact ih (k + 1) (by omega) (by omega)
  exact w n.toNat 0 (by omega) (by omega)
/-- the first with E, or -1 -/
noncomputable def fwd (E : Int → Prop) : Nat → Int → Int
  | 0, _ => -1
  | n + 1, k => rh_if (E k) k (fwd E n (k + 1))
theorem fwd_t {E : Int → Prop} {n : Nat} {k : Int} (h : E k) : fwd E (n + 1) k = k := by simp only [fwd]; rw [rh_if_t h]
theorem fwd_f {E : Int → Prop} {n : Nat} {k : Int} (h : ¬ E k) : fwd E (n + 1) k = fwd E n (k + 1) := by simp only [fwd]; rw [rh_if_f h]
theorem fwd_cg {E F : Int → Prop} : ∀ (n : Nat) (k : Int), (∀ j, k ≤ j → j < k + n → (E j ↔ F j)) → fwd E n k = fwd F n k
  | 0, k => fun _ => rfl
  | n + 1, k => fun h => by
    by_cases q : E k
    · rw [fwd_t q, fwd_t ((h k (by omega) (by omega)).mp q)]
    · rw [fwd_f q, fwd_f (fun z => q ((h k (by omega) (by omega)).mpr z))]
      exact fwd_cg n (k + 1) (fun j j0 j1 => h j (by omega) (by omega))
theorem fwd_n {E : Int → Prop} : ∀ (n : Nat) (k : Int), (∀ j, k ≤ j → j < k + n → ¬ E j) → fwd E n k = -1
  | 0, k => fun _ => rfl
  | n + 1, k => fun h => by
    rw [fwd_f (h k (by omega) (by omega))]
    exact fwd_n n (k + 1) (fun j j0 j1 => h j (by omega) (by omega))
theorem fwd_b {E : Int → Prop} : ∀ (n : Nat) (k : Int), fwd E n k = -1 ∨ (k ≤ fwd E n k ∧ fwd E n k < k + n ∧ E (fwd E n k))
  | 0, k => .inl rfl
  | n + 1, k => by
    by_cases q : E k
    · rw [fwd_t q]; exact .inr ⟨(by omega), (by omega), q⟩
    · rw [fwd_f q]
      rcases fwd_b (E := E) n (k + 1) with h | h
      · exact .inl h
      · exact .inr ⟨(by omega), (by omega), h.2.2⟩
/-- word k of the house's list is word j of the row at y -/
def Ewh (M : rhM) (y j : Int) (k : Int) : Prop := M 66 k = M (y + 2) j ∧ ∀ t, 0 ≤ t → t < M 66 k → M 65 (12 * k + t) = M (y + 1) (12 * j + t)
def Ewm (M : rhM) (x f n : Int) (k : Int) : Prop := M 89 k = n ∧ ∀ t, 0 ≤ t → t < n → M 88 (12 * k + t) = M x (f + t)
theorem c_findW (hh : rh_hs wh) {y m j : Int} {N : Nat} (hy : rh_bl wh 4 y m) (hj : 0 ≤ j ∧ j < m) (M : rhM) (h0 : M 63 1 = N) (hN : N ≤ 150) (hA : ∀ k : Int, 0 ≤ k → k < N → (1 ≤ M 66 k ∧ M 66 k ≤ 12) ∧ ∀ t, 0 ≤ t → t < M 66 k → 33 ≤ M 65 (12 * k + t) ∧ M 65 (12 * k + t) ≤ 126) (hB : (0 ≤ M (y + 2) j ∧ M (y + 2) j ≤ 12) ∧ ∀ t, 0 ≤ t → t < M (y + 2) j → -128 ≤ M (y + 1) (12 * j + t) ∧ M (y + 1) (12 * j + t) ≤ 127) :
    eC wh YX18_find 2 [(2, 63), (2, y), (0, j)] M (fwd (Ewh M y j) N 0) M := by
  refine eC.of1 (rC1.of (by decide) (LE0 rfl) ?_)
  have w : ∀ (u : Nat) (k : Int), k + u = N → 0 ≤ k → rh1 wh YX18_find 2 2 [(0, 2, 63), (1, 2, y), (2, 0, j), (3, 0, k)] [] M (fun r M' => r = fwd (Ewh M y j) u k ∧ M' = M) := by
    intro u
    induction u with
    | zero =>
      intro k hk k0
      refine rh1.of (rX18_find_2 hh _ _ _ _ _ hy ?_)
      rw [h0]
      exact ⟨fun z => by omega, fun _ => ⟨rfl, rfl⟩⟩
    | succ u ih =>
      intro k hk k0
      obtain ⟨a1, a2⟩ := hA k (by omega) (by omega)
      have K := c_ord hh (i := k) (hs_rw64 hh) hy ⟨by omega, by omega⟩ hj M rfl rfl (show 0 ≤ M 66 k ∧ M 66 k ≤ 12 from ⟨by omega, by omega⟩) hB.1 (fun t t0 t1 => show -128 ≤ M 65 (12 * k + t) ∧ M 65 (12 * k + t) ≤ 127 from by have := a2 t t0 t1; exact ⟨by omega, by omega⟩) hB.2
      have z := owd_z (A := fun t => M (64 + 1) (12 * k + t)) (B := fun t => M (y + 1) (12 * j + t)) (d := M (64 + 2) k - M (y + 2) j) (rh_if (M (y + 2) j < M (64 + 2) k) (M (y + 2) j) (M (64 + 2) k)).toNat 0
      have e : owd (fun t => M (64 + 1) (12 * k + t)) (fun t => M (y + 1) (12 * j + t)) (M (64 + 2) k - M (y + 2) j) (rh_if (M (y + 2) j < M (64 + 2) k) (M (y + 2) j) (M (64 + 2) k)).toNat 0 = 0 ↔ Ewh M y j k := by
        rw [z]
        refine ⟨fun h => ?_, fun h => ?_⟩
        · have e1 : M 66 k = M (y + 2) j := by have := h.1; show M (64 + 2) k = M (y + 2) j; omega
          refine ⟨e1, fun t t0 t1 => h.2 t t0 ?_⟩
          rw [show M (64 + 2) k = M 66 k from rfl, rh_if_f (by omega)]
          omega
        · obtain ⟨e1, e2⟩ := h
          have e3 : M (64 + 2) k = M (y + 2) j := e1
          refine ⟨by omega, fun t t0 t1 => e2 t t0 ?_⟩
          rw [rh_if_f (by omega)] at t1
          have : M 66 k = M (64 + 2) k := rfl
          omega
      generalize owd (fun t => M (64 + 1) (12 * k + t)) (fun t => M (y + 1) (12 * j + t)) (M (64 + 2) k - M (y + 2) j) (rh_if (M (y + 2) j < M (64 + 2) k) (M (y + 2) j) (M (64 + 2) k)).toNat 0 = v at K e
      refine rh1.of (rX18_find_2 hh _ _ _ _ _ hy ?_)
      rw [h0]
      refine ⟨fun _ => ?_, fun z => by omega⟩
      refine rh1.s (vX18_find_17 K (LE0 rfl)) ?_
      refine rh1.of (rX18_find_20 hh _ _ _ _ _ _ hy ?_)
      refine ⟨fun z => ⟨(fwd_t (e.mp z)).symm, rfl⟩, fun z => ⟨⟨by omega, by omega⟩, ?_⟩⟩
      rw [fwd_f (fun q => z (e.mpr q))]
      exact ih (k + 1) (by omega) (by omega)
  refine rh1.of (rX18_find_0 hh _ _ _ _ hy ?_)
  exact w N 0 (by omega) (by omega)
theorem c_findListed (hm : rh_ms wm) {x len f n : Int} {N : Nat} (hx : rh_bl wm 6 x len) (hf : 0 ≤ f ∧ 0 ≤ n ∧ f + n ≤ len) (M : rhM) (h0 : M 0 120 = N) (hN : N ≤ 150) (hA : ∀ k : Int, 0 ≤ k → k < N → 1 ≤ M 89 k ∧ M 89 k ≤ 12) :
    eC wm YX32_findListed 0 [(2, 0), (2, x), (0, f), (0, n)] M (fwd (Ewm M x f n) N 0) M := by
  refine eC.of1 (rC1.of (by decide) (LE0 rfl) ?_)
  have w : ∀ (u : Nat) (k : Int), k + u = N → 0 ≤ k → rh1 wm YX32_findListed 0 3 [(0, 2, 0), (1, 2, x), (2, 0, f), (3, 0, n), (4, 0, k)] [] M (fun r M' => r = fwd (Ewm M x f n) u k ∧ M' = M) := by
    intro u
    induction u with
    | zero =>
      intro k hk k0
      refine rh1.of (rX32_findListed_3 hm _ _ _ _ _ _ hx ?_)
      rw [h0]
      exact ⟨fun z => by omega, fun _ => ⟨rfl, rfl⟩⟩
    | succ u ih =>
      intro k hk k0
      have a1 := hA k (by omega) (by omega)
      have v : ∀ (m : Nat) (t b : Int), t + m = n → 0 ≤ t → (b = 0 ∧ ¬ Ewm M x f n k ∨ (b = 1 ∧ M 89 k = n ∧ ∀ s, 0 ≤ s → s < t → M 88 (12 * k + s) = M x (f + s))) → rh1 wm YX32_findListed 0 33 [(0, 2, 0), (1, 2, x), (2, 0, f), (3, 0, n), (4, 0, k), (5, 0, b), (6, 0, t)] [] M (fun r M' => r = fwd (Ewm M x f n) (u + 1) k ∧ M' = M) := by
        intro m
        induction m with
        | zero =>
          intro t b ht t0 hb
          refine rh1.of (rX32_findListed_33 hm _ _ _ _ _ _ _ _ hx ?_)
          refine ⟨fun z => by omega, fun _ => ⟨fun z => ?_, fun z => ⟨⟨by omega, by omega⟩, ?_⟩⟩⟩
          · rcases hb with hb | ⟨_, hb1, hb2⟩
            · exact absurd hb.1 z
            · exact ⟨(fwd_t (⟨hb1, fun s s0 s1 => hb2 s s0 (by omega)⟩ : Ewm M x f n k)).symm, rfl⟩
          · rcases hb with hb | hb
            · rw [fwd_f hb.2]; exact ih (k + 1) (by omega) (by omega)
            · exact absurd hb.1 (by omega)
        | succ m ihm =>
          intro t b ht t0 hb
          refine rh1.of (rX32_findListed_33 hm _ _ _ _ _ _ _ _ hx ?_)
          rcases hb with ⟨hb, hb1⟩ | ⟨hb, hb1, hb2⟩
          · refine ⟨fun z => absurd hb z.2, fun _ => ⟨fun z => absurd hb z, fun z => ⟨⟨by omega, by omega⟩, ?_⟩⟩⟩
            rw [fwd_f hb1]; exact ih (k + 1) (by omega) (by omega)
          · refine ⟨fun z => ⟨⟨by omega, by omega⟩, ⟨by omega, by omega⟩, ?_⟩, fun z => absurd (show t < n ∧ b ≠ 0 from ⟨by omega, by omega⟩) z⟩
            intro b' hb'
            refine ⟨⟨by omega, by omega⟩, ?_⟩
            refine ihm (t + 1) b' (by omega) (by omega) ?_
            by_cases q : M 88 (12 * k + t) = M x (f + t)
            · rw [rh_if_t q] at hb'
              refine .inr ⟨hb', hb1, fun s s0 s1 => ?_⟩
              by_cases e : s = t
              · rw [e]; exact q
              · exact hb2 s s0 (by omega)
            · rw [rh_if_f q] at hb'
              exact .inl ⟨hb', fun z => q (z.2 t t0 (by omega))⟩
      refine rh1.of (rX32_findListed_3 hm _ _ _ _ _ _ hx ?_)
      rw [h0]
      refine ⟨fun _ => ⟨⟨by omega, by omega⟩, ?_⟩, fun z => by omega⟩
      intro b hb
      refine v n.toNat 0 b (by omega) (by omega) ?_
      by_cases q : M 89 k = n
      · rw [rh_if_t q] at hb
        exact .inr ⟨hb, q, fun s s0 s1 => by omega⟩
      · rw [rh_if_f q] at hb
        exact .inl ⟨hb, fun z => q z.1⟩
  refine rh1.of (rX32_findListed_0 hm _ _ _ _ _ hx ?_)
  exact w N 0 (by omega) (by omega)
theorem hs_by7 (hh : rh_hs wh) : rh_bl wh 7 2 4096 := rh_bl.of (o := 2) (m := 4096) hh (by decide +kernel)
theorem ms_in6 (hm : rh_ms wm) : rh_bl wm 6 1 4096 := rh_bl.of (o := 1) (m := 4096) hm (by decide +kernel)
theorem hs_by68 (hh : rh_hs wh) : rh_ar wh 68 .byte 12 := rh_hs_ar hh 68 (by decide) rfl
/-- takes a word of the tape as the word asked for -/
def m_ask (M : rhM) (f n : Int) : rhM := rh_set (rh_cpy M 2 f 68 0 n) 69 0 n
theorem c_ask (hh : rh_hs wh) {f n : Int} (hn : 0 ≤ n ∧ n ≤ 12) (hf : 0 ≤ f ∧ f + n ≤ 4096) (M : rhM) : eC wh YX19_set 1 [(2, 67), (0, 0), (2, 2), (0, f), (0, n)] M 0 (m_ask M f n) := by
  refine eC.of1 (rC1.of (by decide) (LE0 rfl) ?_)
  refine rh1.of (rX19_set_0 hh _ _ _ _ _ _ _ _ (hs_rw67 hh) (hs_by7 hh) ?_)
  refine rh1.s (vX19_set_12 (ty := .byte) (tt := 1) (n0 := 4096) (n1 := 12) rfl rfl rfl (hs_by hh).1 (hs_by68 hh) rfl rfl rfl (by omega) (by omega) (by omega) (by omega) (by omega) (by decide) (by decide) (LE0 rfl)) ?_
  refine rh1.of (rX19_set_15 hh _ _ _ _ _ (hs_rw67 hh) ?_)
  rw [i2b_e ⟨by omega, by omega⟩]
  exact ⟨⟨by omega, by omega⟩, rfl, rfl⟩
/-- the tape is used up -/
def Ftp (c j : Int) : Prop := c = 1 ∧ (j = 2 ∨ j = 3)
theorem Rtp.use {Mh Mm M' M2' : rhM} (h : M' 1 2 = 0) (h2 : M2' 0 2 = 0) : Rtp M' M2' := ⟨by rw [h, h2], by rw [h2]; decide, by rw [h2]; decide, fun k k0 k1 => by rw [h2] at k1; omega⟩
theorem Rwl.n {Mh Mm : rhM} (R : Rwl Mh Mm) : ∃ N : Nat, Mm 0 120 = N ∧ N ≤ 150 := ⟨(Mm 0 120).toNat, by have := R.2.1; omega, by have := R.2.1; omega⟩
theorem c_takeAsked (hh : rh_hs wh) {n : Int} (M : rhM) (h : M 1 2 = n) (hn : 0 ≤ n ∧ n ≤ 4096) : (12 < n → eC wh YX1_takeAsked 2 [(2, 0)] M 0 (rh_set (rh_set M 1 3 0) 1 2 0)) ∧ (n ≤ 12 → eC wh YX1_takeAsked 2 [(2, 0)] M 1 (m_ask (rh_set (rh_set M 1 3 0) 1 2 0) 0 n)) := by
  refine ⟨fun c => eC.of1 (rC1.of (by decide) (LE0 rfl) ?_), fun c => eC.of1 (rC1.of (by decide) (LE0 rfl) ?_)⟩
  · refine rh1.of (rX1_takeAsked_0 hh _ ?_)
    rw [h]
    exact ⟨fun _ => ⟨rfl, rfl⟩, fun z => absurd c z⟩
  · refine rh1.of (rX1_takeAsked_0 hh _ ?_)
    rw [h]
    refine ⟨fun z => by omega, fun _ => ?_⟩
    refine rh1.s (vX1_takeAsked_41 (hs_rw67 hh) (c_ask hh ⟨by omega, by omega⟩ ⟨by omega, by omega⟩ _) (LE0 rfl)) ?_
    refine rh1.of (rX1_takeAsked_44 hh _ ?_)
    exact ⟨rfl, rfl⟩
theorem op_known (hh : rh_hs wh) (hm : rh_ms wm) {Mh Mm : rhM} (T : Rtp Mh Mm) (W : Rwl Mh Mm) : rC2 wh YX1_known 3 [(2, 0)] Mh wm YX32_known 1 [(2, 0)] Mm (fun r M' r2 M2' => r = r2 ∧ Rtp M' M2' ∧ frx (fun c j => Ftp c j ∨ c = 68 ∨ c = 69) Mh M' ∧ frx (fun c j => c = 0 ∧ (j = 0 ∨ j = 2)) Mm M2') := by
  refine rC2.of (by decide) (LE0 rfl) (by decide) (LE0 rfl) ?_
  obtain ⟨t1, t2, t3, t4⟩ := T
  obtain ⟨N, hN, hN1⟩ := W.n
  obtain ⟨w1, w2, w3⟩ := W
  rw [hN] at w1 w3
  obtain ⟨n, hn⟩ : ∃ n, Mm 0 2 = n := ⟨_, rfl⟩
  rw [hn] at t1 t2 t3 t4
  have Km := c_findListed hm (x := 1) (f := 0) (n := n) (N := N) (ms_in6 hm) ⟨by omega, by omega⟩ (rh_set Mm 0 0 0) (by rw [rh_set_j (by decide)]; exact hN) hN1 (fun k k0 k1 => by rw [rh_set_a (by decide)]; exact (w3 k k0 k1).2.1)
  have g2 : frx (fun c j => c = 0 ∧ (j = 0 ∨ j = 2)) Mm (rh_set (rh_set Mm 0 0 0) 0 2 0) := (frx.rf.st (by omega)).st (by omega)
  have e2 : rh_set Mm 0 0 0 0 2 = n := by rw [rh_set_j (by decide)]; exact hn
  have MM : ∀ P : Int → rhM → Prop, P (fwd (Ewm (rh_set Mm 0 0 0) 1 0 n) N 0) (rh_set (rh_set Mm 0 0 0) 0 2 0) → rh1 wm YX32_known 1 0 [(0, 2, 0)] [] Mm P := by
    intro P HP
    refine rh1.of (rX32_known_0 hm _ ?_)
    rw [e2]
    refine rh1.s (vX32_known_16 hm Km (LE0 rfl)) ?_
    refine rh1.of (rX32_known_19 hm _ _ ?_)
    exact HP
  refine rh2.l (rX1_known_0 hh _ ?_)
  by_cases c : 12 < n
  · refine rh2.sl (vX1_known_1 hh ((c_takeAsked hh Mh t1 ⟨by omega, by omega⟩).1 c) (LE0 rfl)) ?_
    refine rh2.l (rX1_known_4 hh _ _ ?_)
    refine ⟨fun z => absurd rfl z, fun _ => ?_⟩
    refine MM _ ⟨?_, Rtp.use (Mh := Mh) (Mm := Mm) (rh_set_s _ _ _ _) (rh_set_s _ _ _ _), (frx.rf.st (by unfold Ftp; omega)).st (by unfold Ftp; omega), g2⟩
    refine (fwd_n N 0 (fun j j0 j1 z => ?_)).symm
    have z1 := z.1
    rw [rh_set_a (by decide)] at z1
    have := (w3 j j0 (by omega)).2.1
    omega
  · have hn12 : n ≤ 12 := (by omega)
    refine rh2.sl (vX1_known_1 hh ((c_takeAsked hh Mh t1 ⟨by omega, by omega⟩).2 hn12) (LE0 rfl)) ?_
    obtain ⟨A, hA⟩ : ∃ A, A = m_ask (rh_set (rh_set Mh 1 3 0) 1 2 0) 0 n := ⟨_, rfl⟩
    have fA : frx (fun c j => Ftp c j ∨ c = 68 ∨ c = 69) Mh A := by
      rw [hA]
      exact (((frx.rf.st (by unfold Ftp; omega)).st (by unfold Ftp; omega)).cpy (fun j _ _ => (by omega))).st (by omega)
    have a69 : A 69 0 = n := by rw [hA]; exact rh_set_s _ _ _ _
    have a68 : ∀ t, 0 ≤ t → t < n → A 68 t = Mh 2 t := fun t t0 t1 => by
      rw [hA]
      unfold m_ask rh_cpy
      rw [rh_set_a (by decide), if_pos rfl, if_pos (by omega), rh_set_a (by decide), rh_set_a (by decide)]
      congr 1
      omega
    rw [← hA]
    have Kh := c_findW hh (j := 0) (N := N) (hs_rw67 hh) ⟨by omega, by omega⟩ A (by rw [fA 63 1 (by unfold Ftp; omega)]; exact w1) hN1 (fun k k0 k1 => by
      rw [fA 66 k (by unfold Ftp; omega)]
      obtain ⟨y1, y2, y3⟩ := w3 k k0 k1
      rw [y1]
      refine ⟨y2, fun t t0 t1 => ?_⟩
      rw [fA 65 _ (by unfold Ftp; omega), (y3 t t0 t1).1]
      exact (y3 t t0 t1).2) ⟨by show 0 ≤ A 69 0 ∧ A 69 0 ≤ 12; rw [a69]; exact ⟨by omega, by omega⟩, fun t t0 t1 => by
        have t2' : t < n := by have e : A (67 + 2) 0 = n := a69; omega
        show -128 ≤ A 68 (12 * 0 + t) ∧ A 68 (12 * 0 + t) ≤ 127
        rw [show 12 * 0 + t = t by omega, a68 t t0 t2']
        exact (t4 t t0 t2').2.2⟩
    have ef : fwd (Ewh A 67 0) N 0 = fwd (Ewm (rh_set Mm 0 0 0) 1 0 n) N 0 := by
      refine fwd_cg N 0 (fun k k0 k1 => ?_)
      obtain ⟨y1, y2, y3⟩ := w3 k k0 (by omega)
      unfold Ewh Ewm
      rw [fA 66 k (by unfold Ftp; omega), y1, rh_set_a (by decide), show A (67 + 2) 0 = n from a69]
      have H : Mm 89 k = n → ∀ t, 0 ≤ t → t < n → (A 65 (12 * k + t) = A (67 + 1) (12 * 0 + t) ↔ rh_set Mm 0 0 0 88 (12 * k + t) = rh_set Mm 0 0 0 1 (0 + t)) := fun e t t0 t1 => by
        obtain ⟨u1, u2⟩ := y3 t t0 (by omega)
        obtain ⟨v1, v2, v3⟩ := t4 t t0 t1
        rw [show A (67 + 1) (12 * 0 + t) = Mh 2 t from by rw [show 12 * 0 + t = t by omega]; exact a68 t t0 t1, fA 65 _ (by unfold Ftp; omega), u1, rh_set_a (by decide), rh_set_a (by decide), show (0 : Int) + t = t by omega, ← v1]
        have := by_p (c := Mm 88 (12 * k + t)) v3 ⟨by omega, by omega⟩
        exact ⟨fun h => (this.mpr h.symm).symm, fun h => (this.mp h.symm).symm⟩
      exact ⟨fun h => ⟨h.1, fun t t0 t1 => (H h.1 t t0 t1).mp (h.2 t t0 (by omega))⟩, fun h => ⟨h.1, fun t t0 t1 => (H h.1 t t0 (by omega)).mpr (h.2 t t0 (by omega))⟩⟩
    refine rh2.l (rX1_known_4 hh _ _ ?_)
    refine ⟨fun _ => ?_, fun z => absurd (show (1 : Int) ≠ 0 by decide) z⟩
    refine rh2.sl (vX1_known_19 hh Kh (LE0 rfl)) ?_
    refine rh2.l (rX1_known_22 hh _ _ ?_)
    refine MM _ ⟨ef, Rtp.use (Mh := Mh) (Mm := Mm) ?_ (rh_set_s _ _ _ _), fA, g2⟩
    rw [hA]
    unfold m_ask
    rw [rh_set_a (by decide), rh_cpy_a (by decide), rh_set_s]
/-- the output's end -/
def m_end (M : rhM) (n : Int) : rhM := rh_set (rh_cpy M 6 0 5 0 n) 4 1 n
theorem hs_by6 (hh : rh_hs wh) : rh_ar wh 6 .byte 6000 := rh_hs_ar hh 6 (by decide) rfl
theorem c_end (hh : rh_hs wh) {n : Int} (M : rhM) (h : M 4 3 = n) (hn : 0 ≤ n) : (6000 < n → eC wh YX4_end 1 [(2, 4)] M (-104) M) ∧ (n ≤ 6000 → eC wh YX4_end 1 [(2, 4)] M n (m_end M n)) := by
  refine ⟨fun c => eC.of1 (rC1.of (by decide) (LE0 rfl) ?_), fun c => eC.of1 (rC1.of (by decide) (LE0 rfl) ?_)⟩
  · refine rh1.of (rX4_end_0 hh _ ?_)
    rw [h]
    exact ⟨fun _ => ⟨rfl, rfl⟩, fun z => absurd c z⟩
  · refine rh1.of (rX4_end_0 hh _ ?_)
    rw [h]
    refine ⟨fun z => by omega, fun _ => ?_⟩
    refine rh1.s (vX4_end_27 (ty := .byte) (tt := 1) (n0 := 6000) (n1 := 6000) rfl rfl rfl (hs_by6 hh) (hs_by hh).2 rfl rfl rfl (by omega) (by omega) (by omega) (by omega) (by omega) (by decide) (by decide) (LE0 rfl)) ?_
    refine rh1.of (rX4_end_30 hh _ ?_)
    rw [rh_cpy_a (by decide), h]
    intro M3 e3
    have e4 : M3 = m_end M n := e3
    rw [e4]
    exact ⟨rh_set_s _ _ _ _, rfl⟩
/-- bytes written so far -/
def Wou (A : rhM) (v : Int → Int) (n : Int) : Prop := A 4 3 = n ∧ ∀ k, 0 ≤ k → k < n → A 6 k = rh_i2b (v k)
theorem Wou.fin {A B : rhM} {v : Int → Int} {n : Int} (W : Wou A v n) (hn : 0 ≤ n ∧ n ≤ 6000) (h4 : B 0 4 = n) (h2 : ∀ k, 0 ≤ k → k < n → B 2 k = v k ∧ 0 ≤ v k ∧ v k ≤ 255) : Rou (m_end A n) B := by
  refine ⟨by rw [h4]; exact rh_set_s _ _ _ _, (by omega), (by omega), fun k k0 k1 => ?_⟩
  rw [h4] at k1
  have e : m_end A n 5 k = rh_i2b (v k) := by
    unfold m_end rh_cpy
    rw [rh_set_a (by decide), if_pos rfl, if_pos (by omega), show (0 : Int) + (k - 0) = k by omega]
    exact W.2 k k0 k1
  obtain ⟨u1, u2, u3⟩ := h2 k k0 k1
  rw [e, u1, b255 u2 u3]
  exact ⟨rfl, ⟨by omega, by omega⟩, rh_i2b_rg _⟩
def Fou (c j : Int) : Prop := (c = 4 ∧ (j = 1 ∨ j = 3)) ∨ c = 5 ∨ c = 6
theorem op_listed (hh : rh_hs wh) (hm : rh_ms wm) {Mh Mm : rhM} (O : Rou Mh Mm) (W : Rwl Mh Mm) (x1 : Int) : rC2 wh YX1_listed 2 [(2, 0), (0, x1)] Mh wm YX32_listed 1 [(2, 0), (0, x1)] Mm (fun r M' r2 M2' => r = r2 ∧ Rou M' M2' ∧ frx Fou Mh M' ∧ frx (fun c j => (c = 0 ∧ (j = 0 ∨ j = 4)) ∨ c = 2) Mm M2') := by
  refine rC2.of (by decide) (LE0 rfl) (by decide) (LE0 rfl) ?_
  obtain ⟨w1, w2, w3⟩ := W
  have e0 : rh_set Mm 0 0 0 0 120 = Mm 0 120 := rh_set_j (by decide)
  refine rh2.l (rX1_listed_0 hh _ _ ?_)
  rw [w1]
  refine ⟨⟨by omega, by omega⟩, fun c => ?_, fun c => ?_⟩
  · refine rh1.of (rX32_listed_0 hm _ _ ?_)
    rw [e0]
    refine ⟨⟨by omega, by omega⟩, fun _ => ⟨rfl, ?_, frx.rf, frx.rf.st (by omega)⟩, fun z => absurd c z⟩
    obtain ⟨o1, o2, o3, o4⟩ := O
    unfold Rou
    rw [show rh_set Mm 0 0 0 0 4 = Mm 0 4 from rh_set_j (by decide)]
    exact ⟨o1, o2, o3, fun k k0 k1 => by rw [rh_set_a (by decide)]; exact o4 k k0 k1⟩
  have hx : 0 ≤ x1 ∧ x1 < Mm 0 120 := ⟨by omega, by omega⟩
  obtain ⟨y1, y2, y3⟩ := w3 x1 hx.1 hx.2
  obtain ⟨n, hn⟩ : ∃ n, Mm 89 x1 = n := ⟨_, rfl⟩
  rw [hn] at y1 y2 y3
  have H : ∀ (m : Nat) (k : Int) (A : rhM), k + m = n → 0 ≤ k → frx Fou Mh A → Wou A (fun t => Mm 88 (12 * x1 + t)) k → ∃ A', (∀ P : Int → rhM → Prop, P n (m_end A' n) → rh1 wh YX1_listed 2 31 [(0, 2, 0), (1, 0, x1), (2, 0, k)] [] A P) ∧ frx Fou Mh A' ∧ Wou A' (fun t => Mm 88 (12 * x1 + t)) n := by
    intro m
    induction m with
    | zero =>
      intro k A hk k0 f wo
      have e : k = n := (by omega)
      rw [e] at wo ⊢
      refine ⟨A, fun P HP => ?_, f, wo⟩
      refine rh1.of (rX1_listed_31 hh _ _ _ ?_)
      rw [f 66 x1 (by unfold Fou; omega), y1]
      refine ⟨⟨by omega, by omega⟩, fun z => by omega, fun _ => ?_⟩
      refine rh1.s (vX1_listed_76 hh ((c_end hh A wo.1 (by omega)).2 (by omega)) (LE0 rfl)) ?_
      refine rh1.of (rX1_listed_79 hh _ _ ?_)
      exact HP
    | succ m ih =>
      intro k A hk k0 f wo
      obtain ⟨z1, z2⟩ := y3 k k0 (by omega)
      obtain ⟨A', E, r⟩ := ih (k + 1) (rh_set (rh_set A 6 k (rh_i2b (Mm 88 (12 * x1 + k)))) 4 3 (k + 1)) (by omega) (by omega) ((f.st (by unfold Fou; omega)).st (by unfold Fou; omega)) ⟨rh_set_s _ _ _ _, fun t t0 t1 => by
        rw [rh_set_a (by decide)]
        by_cases e : t = k
        · rw [e, rh_set_s]
        · rw [rh_set_j e]; exact wo.2 t t0 (by omega)⟩
      refine ⟨A', fun P HP => ?_, r⟩
      refine rh1.of (rX1_listed_31 hh _ _ _ ?_)
      rw [f 66 x1 (by unfold Fou; omega), y1]
      refine ⟨⟨by omega, by omega⟩, fun _ => ?_, fun z => by omega⟩
      refine rh1.s (vX1_listed_60 (hs_rw64 hh) (c_get hh (hs_rw64 hh) A ⟨by omega, by omega⟩) (LE0 rfl)) ?_
      refine rh1.of (rX1_listed_63 hh _ _ _ _ ?_)
      rw [wo.1, rh_if_t (show k < 6000 by omega), rh_set_a (by decide), wo.1, show A (64 + 1) (12 * x1 + k) = Mm 88 (12 * x1 + k) from (f 65 _ (by unfold Fou; omega)).trans z1]
      exact ⟨fun _ => ⟨by omega, by omega⟩, ⟨by omega, by omega⟩, ⟨by omega, by omega⟩, E P HP⟩
  obtain ⟨A', E, fA, wA⟩ := H n.toNat 0 (rh_set Mh 4 3 0) (by omega) (by omega) (frx.rf.st (by unfold Fou; omega)) ⟨rh_set_s _ _ _ _, fun t t0 t1 => by omega⟩
  have G : ∀ (m : Nat) (k : Int) (B : rhM), k + m = n → 0 ≤ k → frx (fun c j => (c = 0 ∧ (j = 0 ∨ j = 4)) ∨ c = 2) Mm B → B 0 4 = k → (∀ t, 0 ≤ t → t < k → B 2 t = Mm 88 (12 * x1 + t)) → rh1 wm YX32_listed 1 31 [(0, 2, 0), (1, 0, x1), (2, 0, k)] [] B (fun r B' => r = n ∧ frx (fun c j => (c = 0 ∧ (j = 0 ∨ j = 4)) ∨ c = 2) Mm B' ∧ B' 0 4 = n ∧ ∀ t, 0 ≤ t → t < n → B' 2 t = Mm 88 (12 * x1 + t)) := by
    intro m
    induction m with
    | zero =>
      intro k B hk k0 f b4 b2
      refine rh1.of (rX32_listed_31 hm _ _ _ ?_)
      rw [f 89 x1 (by omega), hn, b4]
      exact ⟨⟨by omega, by omega⟩, fun z => by omega, fun _ => ⟨(by omega), f, (by omega), fun t t0 t1 => b2 t t0 (by omega)⟩⟩
    | succ m ih =>
      intro k B hk k0 f b4 b2
      refine rh1.of (rX32_listed_31 hm _ _ _ ?_)
      rw [f 89 x1 (by omega), hn, b4, f 88 _ (by omega)]
      refine ⟨⟨by omega, by omega⟩, fun _ => ⟨⟨by omega, by omega⟩, ⟨by omega, by omega⟩, ?_⟩, fun z => by omega⟩
      intro M3 e3
      have e4 : M3 0 4 = k := by rw [e3, rh_set_a (by decide)]; exact b4
      rw [e4, e3]
      refine ⟨⟨by omega, by omega⟩, ⟨by omega, by omega⟩, ih (k + 1) _ (by omega) (by omega) ((f.st (by omega)).st (by omega)) (rh_set_s _ _ _ _) (fun t t0 t1 => ?_)⟩
      rw [rh_set_a (by decide)]
      by_cases e : t = k
      · rw [e, rh_set_s]
      · rw [rh_set_j e]; exact b2 t t0 (by omega)
  refine rh2.r (rX32_listed_0 hm _ _ ?_)
  rw [e0]
  refine ⟨⟨by omega, by omega⟩, fun z => absurd z c, fun _ => ?_⟩
  obtain ⟨r2, B', EB, hr2, fB, b4, b2⟩ := G n.toNat 0 (rh_set (rh_set Mm 0 0 0) 0 4 0) (by omega) (by omega) ((frx.rf.st (by omega)).st (by omega)) (rh_set_s _ _ _ _) (fun t t0 t1 => by omega)
  obtain ⟨r1, A2, EA, hr1, hA2⟩ := E (fun r M' => r = n ∧ M' = m_end A' n) ⟨rfl, rfl⟩
  rw [hA2] at EA
  refine ⟨_, _, _, _, EA, EB, hr1.trans hr2.symm, wA.fin ⟨by omega, by omega⟩ b4 (fun t t0 t1 => ⟨b2 t t0 t1, ?_⟩), ?_, fB⟩
  · have := (y3 t t0 t1).2; exact ⟨by omega, by omega⟩
  · unfold m_end
    exact (fA.cpy (fun j _ _ => by unfold Fou; omega)).st (by unfold Fou; omega)
end Known
