/-! ===== LAYER 2: the tape read byte by byte; op train ===== -/
section Train
variable {wh wm : rhW}
theorem tC.of1 {w : rhW} {Y : rhY} {h : Nat} {av : List rhA} {M M0 : rhM} (H : rCx w Y h av M (fun o M' => o = none ∧ M' = M0)) : tC w Y h av M M0 := by
  obtain ⟨o, M', E, rfl, rfl⟩ := H
  exact E
theorem c_nextT (hh : rh_hs wh) (M : rhM) (h : M 1 3 = M 1 2) : tC wh YX2_next 1 [(2, 1)] M (rh_set M 3 6 (M 1 3)) :=
  tC.of1 (rCx.of (by decide) (LE0 rfl) (by
    refine rx1.of (rX2_next_0 hh _ ?_)
    exact ⟨fun _ => rx1.t vtX2_next_19 ⟨rfl, rfl⟩, fun z => absurd h z⟩))
theorem c_next (hh : rh_hs wh) {k n : Int} (M : rhM) (h : M 1 3 = k) (h2 : M 1 2 = n) (hk : 0 ≤ k ∧ k < n) (hn : n ≤ 4096) : eC wh YX2_next 1 [(2, 1)] M (rh_and (M 2 k) 255) (rh_set M 1 3 (k + 1)) :=
  eC.of1 (rC1.of (by decide) (LE0 rfl) (by
    refine rh1.of (rX2_next_0 hh _ ?_)
    rw [h, h2]
    refine ⟨fun z => by omega, fun _ => ⟨⟨by omega, by omega⟩, ?_⟩⟩
    intro M3 e3
    refine ⟨⟨by omega, by omega⟩, ?_, e3⟩
    rw [e3, rh_set_a (by decide)]))
theorem c_mustT (hh : rh_hs wh) {y : Int} (M : rhM) : tC wh YX2_must 1 [(2, 1), (0, 0), (0, y)] M (rh_set M 3 6 y) :=
  tC.of1 (rCx.of (by decide) (LE0 rfl) (by
    refine rx1.of (rX2_must_0 hh _ _ _ ?_)
    exact ⟨fun _ => rx1.t vtX2_must_9 ⟨rfl, rfl⟩, fun z => absurd rfl z⟩))
theorem c_must (hh : rh_hs wh) {x y : Int} (hx : x ≠ 0) (M : rhM) : eC wh YX2_must 1 [(2, 1), (0, x), (0, y)] M 0 M :=
  eC.of1 (rC1.of (by decide) (LE0 rfl) (by
    refine rh1.of (rX2_must_0 hh _ _ _ ?_)
    exact ⟨fun z => absurd z hx, fun _ => ⟨rfl, rfl⟩⟩))
/-- the sign at k, 0 where there is none -/
noncomputable def sgn (v : Int → Int) (n k : Int) : Int := rh_if (0 ≤ k ∧ k < n ∧ 33 ≤ v k ∧ v k ≤ 126) (v k) 0
theorem sgn_b {v : Int → Int} {n : Int} (k : Int) : sgn v n k = 0 ∨ (33 ≤ sgn v n k ∧ sgn v n k ≤ 126) := by
  unfold sgn
  by_cases q : 0 ≤ k ∧ k < n ∧ 33 ≤ v k ∧ v k ≤ 126
  · rw [rh_if_t q]; exact .inr ⟨by omega, by omega⟩
  · rw [rh_if_f q]; exact .inl rfl
def prN (v : Int → Int) (n k : Int) : Prop := sgn v n k ≠ 0 ∨ sgn v n (k - 1) ≠ 0
def prP (v : Int → Int) (n j k : Int) : Prop := prN v n k ∧ j = 95 * six (sgn v n (k - 1)) + six (sgn v n k)
def prT (v : Int → Int) (n a k : Int) : Prop := prN v n k ∧ a = six (sgn v n (k - 1))
theorem mul_s (b c : Int) (m : Int) : m + b * c + b = m + b * (c + 1) := by rw [Int.mul_add, Int.mul_one, Int.add_assoc]
theorem bmul {b c : Int} (hb : b = 1 ∨ b = -1) : b * c = c ∨ b * c = -c := by
  rcases hb with h | h
  · rw [h, Int.one_mul]; exact .inl rfl
  · rw [h, Int.neg_mul, Int.one_mul]; exact .inr rfl
theorem c_count (hh : rh_hs wh) {v : Int → Int} {N : Nat} {b : Int} (hN : N ≤ 4096) (hb : b = 1 ∨ b = -1) (M : rhM) (hv : ∀ k : Int, 0 ≤ k → k < N → rh_and (M 2 k) 255 = v k ∧ (0 ≤ v k ∧ v k ≤ 255) ∧ -128 ≤ M 2 k ∧ M 2 k ≤ 127) (hP : ∀ j, 0 ≤ j → j < 9025 → -10000 ≤ M 79 j ∧ M 79 j ≤ 1100000) (hT : ∀ a, 0 ≤ a → a < 95 → -10000 ≤ M 80 a ∧ M 80 a ≤ 1100000) :
    rC1 wh YX18_count 2 [(2, 63), (2, 1), (0, (N : Int)), (0, b)] M (fun r M' => r = ctp (prN v N) (N + 1) ∧ frx (fun c _ => c = 79 ∨ c = 80) M M' ∧ (∀ j, M' 79 j = M 79 j + b * ctp (prP v N j) (N + 1)) ∧ ∀ a, M' 80 a = M 80 a + b * ctp (prT v N a) (N + 1)) := by
  refine rC1.of (by decide) (LE0 rfl) ?_
  generalize hPost : (fun (r : Int) (M' : rhM) => r = ctp (prN v N) (N + 1) ∧ frx (fun c _ => c = 79 ∨ c = 80) M M' ∧ (∀ j, M' 79 j = M 79 j + b * ctp (prP v N j) (N + 1)) ∧ ∀ a, M' 80 a = M 80 a + b * ctp (prT v N a) (N + 1)) = Post
  have w : ∀ (m k : Nat) (A : rhM), k + m = N + 1 → frx (fun c _ => c = 79 ∨ c = 80) M A → (∀ j, A 79 j = M 79 j + b * ctp (prP v N j) k) → (∀ a, A 80 a = M 80 a + b * ctp (prT v N a) k) → rh1 wh YX18_count 2 9 [(0, 2, 63), (1, 2, 1), (2, 0, (N : Int)), (3, 0, b), (4, 0, sgn v N ((k : Int) - 1)), (5, 0, ctp (prN v N) k), (6, 0, (k : Int))] [] A Post := by
    intro m
    induction m with
    | zero =>
      intro k A hk f h1 h2
      have e : k = N + 1 := (by omega)
      rw [e] at h1 h2 ⊢
      refine rh1.of (rX18_count_9 hh _ _ _ _ _ _ ?_)
      refine ⟨fun z => by omega, fun _ => ?_⟩
      rw [← hPost]
      exact ⟨rfl, f, h1, h2⟩
    | succ m ih =>
      intro k A hk f h1 h2
      have es : rh_if (((k : Int) < N) ∧ ((33 ≤ A 2 k) ∧ (A 2 k ≤ 126))) (A 2 k) 0 = sgn v N k := by
        rw [f 2 k (by omega)]
        unfold sgn
        by_cases q : (k : Int) < N
        · obtain ⟨y1, y2, y3⟩ := hv k (by omega) q
          rw [by_e y3] at y1
          by_cases q2 : 33 ≤ M 2 k ∧ M 2 k ≤ 126
          · rw [if_neg (by omega)] at y1
            rw [rh_if_t ⟨q, q2⟩, rh_if_t ⟨(by omega), q, by omega, by omega⟩, y1]
          · rw [rh_if_f (fun z => q2 z.2), rh_if_f]
            intro z
            by_cases n0 : M 2 k < 0
            · rw [if_pos n0] at y1; omega
            · rw [if_neg n0] at y1; omega
        · rw [rh_if_f (fun z => q z.1), rh_if_f (fun z => q z.2.1)]
      have s0 := sgn_b (v := v) (n := N) k
      have s1 := sgn_b (v := v) (n := N) ((k : Int) - 1)
      have b0 := six_b (c := sgn v N k) s0
      have b1 := six_b (c := sgn v N ((k : Int) - 1)) s1
      have cN := ctp_b (prN v N) k
      have e1 : ((k + 1 : Nat) : Int) - 1 = k := (by omega)
      refine rh1.of (rX18_count_9 hh _ _ _ _ _ _ ?_)
      rw [es]
      refine ⟨fun _ => ⟨fun _ => ⟨by omega, by omega⟩, fun _ => ⟨by omega, by omega⟩, ?_⟩, fun z => by omega⟩
      intro c hc
      rw [hc, six_e (sgn v N ((k : Int) - 1)), six_e (sgn v N k)]
      have hp1 := h1 (95 * six (sgn v N ((k : Int) - 1)) + six (sgn v N k))
      have ht1 := h2 (six (sgn v N ((k : Int) - 1)))
      have hp2 := hP (95 * six (sgn v N ((k : Int) - 1)) + six (sgn v N k)) (by omega) (by omega)
      have ht2 := hT (six (sgn v N ((k : Int) - 1))) (by omega) (by omega)
      have cp := ctp_b (prP v N (95 * six (sgn v N ((k : Int) - 1)) + six (sgn v N k))) k
      have ct := ctp_b (prT v N (six (sgn v N ((k : Int) - 1)))) k
      have m1 := bmul (c := ctp (prP v N (95 * six (sgn v N ((k : Int) - 1)) + six (sgn v N k))) k) hb
      have m2 := bmul (c := ctp (prT v N (six (sgn v N ((k : Int) - 1)))) k) hb
      refine ⟨fun q => ?_, fun q => ?_⟩
      · have q' : prN v N k := q
        refine ⟨⟨by omega, by omega⟩, ⟨by omega, by omega⟩, ⟨by omega, by omega⟩, ?_⟩
        intro x hx
        rw [hp1] at hx
        have bx : rI x := by rcases hb with h | h <;> rcases m1 with g | g <;> omega
        refine ⟨⟨by omega, by omega⟩, bx, ?_⟩
        intro M3 e3
        have e4 : M3 80 (six (sgn v N ((k : Int) - 1))) = M 80 (six (sgn v N ((k : Int) - 1))) + b * ctp (prT v N (six (sgn v N ((k : Int) - 1)))) k := by rw [e3, rh_set_a (by decide)]; exact ht1
        rw [e4]
        refine ⟨⟨by omega, by omega⟩, ⟨by omega, by omega⟩, ?_⟩
        intro y hy
        have byy : rI y := by rcases hb with h | h <;> rcases m2 with g | g <;> omega
        refine ⟨⟨by omega, by omega⟩, byy, ⟨by omega, by omega⟩, ⟨by omega, by omega⟩, ?_⟩
        have z := ih (k + 1) (rh_set M3 80 (six (sgn v N ((k : Int) - 1))) y) (by omega) (by rw [e3]; exact (f.st (by omega)).st (by omega)) (fun j => by
          rw [rh_set_a (by decide), e3]
          by_cases e : j = 95 * six (sgn v N ((k : Int) - 1)) + six (sgn v N k)
          · rw [e, rh_set_s, hx, ctp_t (P := prP v N (95 * six (sgn v N ((k : Int) - 1)) + six (sgn v N k))) (⟨q', rfl⟩ : prP v N _ k), mul_s]
          · rw [rh_set_j e, ctp_f (P := prP v N j) (fun z => e z.2)]; exact h1 j) (fun a => by
          by_cases e : a = six (sgn v N ((k : Int) - 1))
          · rw [e, rh_set_s, hy, ctp_t (P := prT v N (six (sgn v N ((k : Int) - 1)))) (⟨q', rfl⟩ : prT v N _ k), mul_s]
          · rw [rh_set_j e, e3, rh_set_a (by decide), ctp_f (P := prT v N a) (fun z => e z.2)]; exact h2 a)
        rw [e1, ctp_t (P := prN v N) q'] at z
        exact z
      · have q' : ¬ prN v N k := q
        refine ⟨⟨by omega, by omega⟩, ?_⟩
        have z := ih (k + 1) A (by omega) f (fun j => by rw [ctp_f (P := prP v N j) (fun z => q' z.1)]; exact h1 j) (fun a => by rw [ctp_f (P := prT v N a) (fun z => q' z.1)]; exact h2 a)
        rw [e1, ctp_f (P := prN v N) q'] at z
        exact z
  refine rh1.of (rX18_count_0 hh _ _ _ ?_)
  have z := w (N + 1) 0 M (by omega) frx.rf (fun j => by show M 79 j = M 79 j + b * 0; omega) (fun a => by show M 80 a = M 80 a + b * 0; omega)
  have e0 : sgn v N (((0 : Nat) : Int) - 1) = 0 := by unfold sgn; exact rh_if_f (fun z => by omega)
  rw [e0] at z
  exact z
def okT (c : Int) : Prop := (33 ≤ c ∧ c ≤ 126) ∨ (c = 10 ∨ c = 32)
theorem set_tw {M : rhM} {a b : Int} : rh_set (rh_set M 1 3 a) 1 3 b = rh_set M 1 3 b := by
  funext x j
  simp only [rh_sets]
  by_cases h : x = 1
  · by_cases g : j = 3
    · simp [h, g]
    · simp [h, g]
  · simp [h]
/-- the house looks through the tape -/
theorem h_trainT (hh : rh_hs wh) {v : Int → Int} {n q : Int} (hn : n ≤ 4096) (M : rhM) (h2 : M 1 2 = n) (hv : ∀ k, 0 ≤ k → k < n → rh_and (M 2 k) 255 = v k) (hq : 0 ≤ q ∧ q < n) (ok : ∀ k, 0 ≤ k → k < q → okT (v k)) (bad : ¬ okT (v q)) : tC wh YX18_train 3 [(2, 63), (2, 1)] M (rh_set (rh_set M 1 3 (q + 1)) 3 6 q) := by
  refine tC.of1 (rCx.of (by decide) (LE0 rfl) ?_)
  have w : ∀ (m : Nat) (k : Int), k + m = q → 0 ≤ k → rx1 wh YX18_train 3 5 [(0, 2, 63), (1, 2, 1), (2, 0, n)] [] (rh_set M 1 3 k) (fun o M' => o = none ∧ M' = rh_set (rh_set M 1 3 (q + 1)) 3 6 q) := by
    have st : ∀ (k : Int), 0 ≤ k → k ≤ q → rx1 wh YX18_train 3 16 [(0, 2, 63), (1, 2, 1), (2, 0, n)] [(0, v k)] (rh_set M 1 3 (k + 1)) (fun o M' => o = none ∧ M' = rh_set (rh_set M 1 3 (q + 1)) 3 6 q) → rx1 wh YX18_train 3 5 [(0, 2, 63), (1, 2, 1), (2, 0, n)] [] (rh_set M 1 3 k) (fun o M' => o = none ∧ M' = rh_set (rh_set M 1 3 (q + 1)) 3 6 q) := by
      intro k k0 k1 H
      have K := c_next hh (k := k) (n := n) (rh_set M 1 3 k) (rh_set_s _ _ _ _) (by rw [rh_set_j (by decide)]; exact h2) ⟨by omega, by omega⟩ hn
      rw [rh_set_a (by decide), hv k k0 (by omega)] at K
      rw [set_tw] at K
      refine rx1.of (rX18_train_5 hh _ _ ?_)
      rw [rh_set_s, rh_set_j (by decide), h2]
      refine ⟨fun _ => ?_, fun z => by omega⟩
      exact rx1.g (vgX18_train_13 hh K (LE0 rfl)) H
    intro m
    induction m with
    | zero =>
      intro k hk k0
      have e : k = q := (by omega)
      rw [e]
      refine st q hq.1 (Int.le_refl _) ?_
      refine rx1.of (rX18_train_16 hh _ _ _ ?_)
      rw [rh_set_s, rh_if_f (show ¬ ((33 ≤ v q ∧ v q ≤ 126) ∨ (v q = 10 ∨ v q = 32)) from bad), show q + 1 - 1 = q by omega]
      refine rx1.g (eG.fx 0 (x := q) rfl ⟨by omega, by omega⟩ rfl) ?_
      exact rx1.t (vtX18_train_48 hh (c_mustT hh _) (LE0 rfl)) ⟨rfl, rfl⟩
    | succ m ih =>
      intro k hk k0
      refine st k k0 (by omega) ?_
      refine rx1.of (rX18_train_16 hh _ _ _ ?_)
      rw [rh_set_s, rh_if_t (show (33 ≤ v k ∧ v k ≤ 126) ∨ (v k = 10 ∨ v k = 32) from ok k k0 (by omega))]
      refine rx1.g (eG.fx 0 (x := k + 1 - 1) rfl ⟨by omega, by omega⟩ rfl) ?_
      refine rx1.g (vgX18_train_48 hh (c_must hh (by decide) _) (LE0 rfl)) ?_
      refine rx1.of (rX18_train_51 hh _ _ ?_)
      exact ih (k + 1) (by omega) (by omega)
  refine rx1.of (rX18_train_0 hh _ ?_)
  rw [h2]
  exact w q.toNat 0 (by omega) (by omega)
theorem h_trainS (hh : rh_hs wh) {v : Int → Int} {n : Int} (hn : 0 ≤ n ∧ n ≤ 4096) (M : rhM) (h2 : M 1 2 = n) (hv : ∀ k, 0 ≤ k → k < n → rh_and (M 2 k) 255 = v k) (ok : ∀ k, 0 ≤ k → k < n → okT (v k)) : eS wh YX18_train 3 0 (rh_lo 0 [(2, 63), (2, 1)]) [] M 58 [(0, 2, 63), (1, 2, 1), (2, 0, n)] [(0, 1), (0, n), (2, 1), (2, 63)] (rh_set M 1 3 n) := by
  have w : ∀ (m : Nat) (k : Int), k + m = n → 0 ≤ k → eS wh YX18_train 3 5 [(0, 2, 63), (1, 2, 1), (2, 0, n)] [] (rh_set M 1 3 k) 58 [(0, 2, 63), (1, 2, 1), (2, 0, n)] [(0, 1), (0, n), (2, 1), (2, 63)] (rh_set M 1 3 n) := by
    intro m
    induction m with
    | zero =>
      intro k hk k0
      have e : k = n := (by omega)
      rw [e]
      refine eS.of (fun P HP => ?_)
      refine rh1.of (rX18_train_5 hh _ _ ?_)
      rw [rh_set_s, rh_set_j (by decide), h2]
      exact ⟨fun z => absurd rfl z, fun _ => HP⟩
    | succ m ih =>
      intro k hk k0
      have K := c_next hh (k := k) (n := n) (rh_set M 1 3 k) (rh_set_s _ _ _ _) (by rw [rh_set_j (by decide)]; exact h2) ⟨by omega, by omega⟩ hn.2
      rw [rh_set_a (by decide), hv k k0 (by omega)] at K
      rw [set_tw] at K
      refine eS.of (fun P HP => ?_)
      refine rh1.of (rX18_train_5 hh _ _ ?_)
      rw [rh_set_s, rh_set_j (by decide), h2]
      refine ⟨fun _ => ?_, fun z => by omega⟩
      refine rh1.s (vX18_train_13 hh K (LE0 rfl)) ?_
      refine rh1.of (rX18_train_16 hh _ _ _ ?_)
      rw [rh_set_s, rh_if_t (show (33 ≤ v k ∧ v k ≤ 126) ∨ (v k = 10 ∨ v k = 32) from ok k k0 (by omega))]
      refine rh1.s (eS.fx 0 (x := k + 1 - 1) rfl ⟨by omega, by omega⟩ rfl) ?_
      refine rh1.s (vX18_train_48 hh (c_must hh (by decide) _) (LE0 rfl)) ?_
      refine rh1.of (rX18_train_51 hh _ _ ?_)
      exact rh1.s (ih (k + 1) (by omega) (by omega)) HP
  refine eS.of (fun P HP => ?_)
  refine rh1.of (rX18_train_0 hh _ ?_)
  rw [h2]
  exact rh1.s (w n.toNat 0 (by omega) (by omega)) HP
/-- the model looks through the tape -/
theorem m_trainL (hm : rh_ms wm) {v : Int → Int} {n : Int} (hn : 0 ≤ n ∧ n ≤ 4096) (M : rhM) (h2 : M 0 2 = n) (hv : ∀ k, 0 ≤ k → k < n → M 1 k = v k) : (∀ q, 0 ≤ q → q < n → (∀ k, 0 ≤ k → k < q → okT (v k)) → ¬ okT (v q) → ∀ P : Int → rhM → Prop, P (-1000 - q) (rh_set M 0 2 0) → rh1 wm YX32_train 2 7 [(0, 2, 0), (1, 0, 0)] [] M P) ∧ ((∀ k, 0 ≤ k → k < n → okT (v k)) → eS wm YX32_train 2 7 [(0, 2, 0), (1, 0, 0)] [] M 53 [(0, 2, 0), (1, 0, 0)] [] M) := by
  have cd : ∀ k, 0 ≤ k → k < n → okT (v k) → ¬ ((¬ (M 1 k = 10 ∨ M 1 k = 32)) ∧ ¬ (33 ≤ M 1 k ∧ M 1 k ≤ 126)) := fun k k0 k1 h z => by
    rw [hv k k0 k1] at z
    rcases h with h | h
    · exact z.2 h
    · exact z.1 h
  have step : ∀ k, 0 ≤ k → k < n → okT (v k) → eS wm YX32_train 2 7 [(0, 2, 0), (1, 0, k)] [] M 7 [(0, 2, 0), (1, 0, k + 1)] [] M := fun k k0 k1 h => eS.of (fun P HP => by
    refine rh1.of (rX32_train_7 hm _ _ ?_)
    rw [h2]
    exact ⟨fun _ => ⟨⟨by omega, by omega⟩, fun _ => ⟨by omega, by omega⟩, fun z => absurd z (cd k k0 k1 h), fun _ => ⟨⟨by omega, by omega⟩, HP⟩⟩, fun z => by omega⟩)
  refine ⟨fun q q0 q1 ok bad P HP => ?_, fun ok => ?_⟩
  · have w : ∀ (m : Nat) (k : Int), k + m = q → 0 ≤ k → rh1 wm YX32_train 2 7 [(0, 2, 0), (1, 0, k)] [] M P := by
      intro m
      induction m with
      | zero =>
        intro k hk k0
        have e : k = q := (by omega)
        rw [e]
        refine rh1.of (rX32_train_7 hm _ _ ?_)
        rw [h2]
        refine ⟨fun _ => ⟨⟨by omega, by omega⟩, fun _ => ⟨by omega, by omega⟩, fun _ => ⟨⟨by omega, by omega⟩, HP⟩, fun z => absurd ?_ z⟩, fun z => by omega⟩
        rw [hv q q0 q1]
        exact ⟨fun y => bad (.inr y), fun y => bad (.inl y)⟩
      | succ m ih =>
        intro k hk k0
        exact rh1.s (step k k0 (by omega) (ok k k0 (by omega))) (ih (k + 1) (by omega) (by omega))
    exact w q.toNat 0 (by omega) (by omega)
  · have w : ∀ (m : Nat) (k : Int), k + m = n → 0 ≤ k → eS wm YX32_train 2 7 [(0, 2, 0), (1, 0, k)] [] M 53 [(0, 2, 0), (1, 0, 0)] [] M := by
      intro m
      induction m with
      | zero =>
        intro k hk k0
        refine eS.of (fun P HP => ?_)
        refine rh1.of (rX32_train_7 hm _ _ ?_)
        rw [h2]
        exact ⟨fun z => by omega, fun _ => HP⟩
      | succ m ih =>
        intro k hk k0
        exact (step k k0 (by omega) (ok k k0 (by omega))).tr (ih (k + 1) (by omega) (by omega))
    exact w n.toNat 0 (by omega) (by omega)
/-- the model counts -/
theorem m_trainC (hm : rh_ms wm) {v : Int → Int} {N : Nat} (hN : N ≤ 4096) (M : rhM) (h2 : M 0 2 = N) (hv : ∀ k : Int, 0 ≤ k → k < N → M 1 k = v k) (ok : ∀ k : Int, 0 ≤ k → k < N → okT (v k)) (hP : ∀ j, 0 ≤ j → j < 9025 → -10000 ≤ M 98 j ∧ M 98 j ≤ 1100000) (hT : ∀ a, 0 ≤ a → a < 95 → -10000 ≤ M 99 a ∧ M 99 a ≤ 1100000) :
    ∃ B, eS wm YX32_train 2 53 [(0, 2, 0), (1, 0, 0)] [] M 202 [(0, 2, 0), (1, 0, ctp (prN v N) (N + 1)), (3, 0, 0)] [] B ∧ frx (fun c _ => c = 100 ∨ c = 101) M B ∧ (∀ j, 0 ≤ j → j < 9025 → B 100 j = M 98 j + ctp (prP v N j) (N + 1)) ∧ ∀ a, 0 ≤ a → a < 95 → B 101 a = M 99 a + ctp (prT v N a) (N + 1) := by
  have w3 : ∀ (m k : Nat) (A : rhM), k + m = N + 1 → frx (fun c _ => c = 100 ∨ c = 101) M A → (∀ j, 0 ≤ j → j < 9025 → A 100 j = M 98 j + ctp (prP v N j) k) → (∀ a, 0 ≤ a → a < 95 → A 101 a = M 99 a + ctp (prT v N a) k) → ∃ B, eS wm YX32_train 2 110 [(0, 2, 0), (1, 0, ctp (prN v N) k), (2, 0, six (sgn v N ((k : Int) - 1))), (3, 0, (k : Int))] [] A 202 [(0, 2, 0), (1, 0, ctp (prN v N) (N + 1)), (3, 0, 0)] [] B ∧ frx (fun c _ => c = 100 ∨ c = 101) M B ∧ (∀ j, 0 ≤ j → j < 9025 → B 100 j = M 98 j + ctp (prP v N j) (N + 1)) ∧ ∀ a, 0 ≤ a → a < 95 → B 101 a = M 99 a + ctp (prT v N a) (N + 1) := by
    intro m
    induction m with
    | zero =>
      intro k A hk f h1 h3
      have e : k = N + 1 := (by omega)
      rw [e] at h1 h3 ⊢
      refine ⟨A, eS.of (fun P HP => ?_), f, h1, h3⟩
      refine rh1.of (rX32_train_110 hm _ _ _ _ ?_)
      rw [f 0 2 (by omega), h2]
      exact ⟨fun z => by omega, fun _ => HP⟩
    | succ m ih =>
      intro k A hk f h1 h3
      have es : rh_if (((k : Int) = N) ∨ ((A 1 k = 10) ∨ (A 1 k = 32))) (0 : Int) (rh_if (A 1 k = 0) (0 : Int) (A 1 k - 32)) = six (sgn v N k) := by
        by_cases q : (k : Int) = N
        · rw [rh_if_t (.inl q)]
          have : sgn v N k = 0 := by unfold sgn; exact rh_if_f (fun z => by omega)
          rw [this]; unfold six; rw [rh_if_t rfl]
        · have o := ok k (by omega) (by omega)
          rw [f 1 k (by omega), hv k (by omega) (by omega)]
          by_cases q2 : v k = 10 ∨ v k = 32
          · rw [rh_if_t (.inr q2)]
            have : sgn v N k = 0 := by unfold sgn; exact rh_if_f (fun z => by omega)
            rw [this]; unfold six; rw [rh_if_t rfl]
          · have o2 := o.resolve_right q2
            rw [rh_if_f (fun z => z.elim q q2), rh_if_f (by omega)]
            have : sgn v N k = v k := by unfold sgn; exact rh_if_t ⟨(by omega), (by omega), o2.1, o2.2⟩
            rw [this]; unfold six; rw [rh_if_f (by omega)]
      have hb1 : ((k : Int) ≠ N) → ((0 ≤ (k : Int)) ∧ ((k : Int) < 4096)) := fun z => ⟨by omega, by omega⟩
      have hb3 : (¬ (((k : Int) = N) ∨ ((A 1 k = 10) ∨ (A 1 k = 32)))) → rI (rh_if (A 1 k = 0) (0 : Int) (A 1 k - 32)) := fun z => by
        have o := ok k (by omega) (by have : ¬ ((k : Int) = N) := fun y => z (.inl y); omega)
        have : A 1 k = v k := by
          have : ¬ ((k : Int) = N) := fun y => z (.inl y)
          rw [f 1 k (by omega), hv k (by omega) (by omega)]
        rw [this]
        rcases o with o | o
        · rw [rh_if_f (by omega)]; exact ⟨by omega, by omega⟩
        · exact absurd (.inr (by rw [this]; exact o)) z
      have s0 := sgn_b (v := v) (n := N) k
      have s1 := sgn_b (v := v) (n := N) ((k : Int) - 1)
      have b0 := six_b (c := sgn v N k) s0
      have b1 := six_b (c := sgn v N ((k : Int) - 1)) s1
      have p0 : 0 < six (sgn v N k) ↔ sgn v N k ≠ 0 := by
        unfold six
        by_cases q : sgn v N k = 0
        · rw [rh_if_t q]; omega
        · rw [rh_if_f q]; omega
      have p1 : 0 < six (sgn v N ((k : Int) - 1)) ↔ sgn v N ((k : Int) - 1) ≠ 0 := by
        unfold six
        by_cases q : sgn v N ((k : Int) - 1) = 0
        · rw [rh_if_t q]; omega
        · rw [rh_if_f q]; omega
      have cN := ctp_b (prN v N) k
      have e1 : ((k + 1 : Nat) : Int) - 1 = k := (by omega)
      have hp1 := h1 (95 * six (sgn v N ((k : Int) - 1)) + six (sgn v N k)) (by omega) (by omega)
      have ht1 := h3 (six (sgn v N ((k : Int) - 1))) (by omega) (by omega)
      have hp2 := hP (95 * six (sgn v N ((k : Int) - 1)) + six (sgn v N k)) (by omega) (by omega)
      have ht2 := hT (six (sgn v N ((k : Int) - 1))) (by omega) (by omega)
      have cp := ctp_b (prP v N (95 * six (sgn v N ((k : Int) - 1)) + six (sgn v N k))) k
      have ct := ctp_b (prT v N (six (sgn v N ((k : Int) - 1)))) k
      by_cases q : prN v N k
      · obtain ⟨B, E, r⟩ := ih (k + 1) (rh_set (rh_set A 100 (95 * six (sgn v N ((k : Int) - 1)) + six (sgn v N k)) (M 98 (95 * six (sgn v N ((k : Int) - 1)) + six (sgn v N k)) + ctp (prP v N (95 * six (sgn v N ((k : Int) - 1)) + six (sgn v N k))) k + 1)) 101 (six (sgn v N ((k : Int) - 1))) (M 99 (six (sgn v N ((k : Int) - 1))) + ctp (prT v N (six (sgn v N ((k : Int) - 1)))) k + 1)) (by omega) ((f.st (by omega)).st (by omega)) (fun j j0 j1 => by
          rw [rh_set_a (by decide)]
          by_cases e : j = 95 * six (sgn v N ((k : Int) - 1)) + six (sgn v N k)
          · rw [e, rh_set_s, ctp_t (P := prP v N (95 * six (sgn v N ((k : Int) - 1)) + six (sgn v N k))) (⟨q, rfl⟩ : prP v N _ k)]; omega
          · rw [rh_set_j e, ctp_f (P := prP v N j) (fun z => e z.2)]; exact h1 j j0 j1) (fun a a0 a1 => by
          by_cases e : a = six (sgn v N ((k : Int) - 1))
          · rw [e, rh_set_s, ctp_t (P := prT v N (six (sgn v N ((k : Int) - 1)))) (⟨q, rfl⟩ : prT v N _ k)]; omega
          · rw [rh_set_j e, rh_set_a (by decide), ctp_f (P := prT v N a) (fun z => e z.2)]; exact h3 a a0 a1)
        refine ⟨B, eS.of (fun P HP => ?_), r⟩
        rw [e1, ctp_t (P := prN v N) q] at E
        refine rh1.of (rX32_train_110 hm _ _ _ _ ?_)
        rw [f 0 2 (by omega), h2, es]
        refine ⟨fun _ => ⟨hb1, fun z => hb1 (fun y => z (.inl y)), hb3, ?_⟩, fun z => by omega⟩
        intro c hc
        rw [hc, hp1]
        refine ⟨fun _ => ⟨⟨by omega, by omega⟩, ?_⟩, fun z => absurd (q.elim (fun y => .inr (p0.mpr y)) (fun y => .inl (p1.mpr y))) z⟩
        intro x hx
        refine ⟨⟨by omega, by omega⟩, ⟨by omega, by omega⟩, ?_⟩
        intro M3 e3
        have e4 : M3 101 (six (sgn v N ((k : Int) - 1))) = M 99 (six (sgn v N ((k : Int) - 1))) + ctp (prT v N (six (sgn v N ((k : Int) - 1)))) k := by rw [e3, rh_set_a (by decide)]; exact ht1
        rw [e4, e3, hx]
        exact ⟨⟨by omega, by omega⟩, ⟨by omega, by omega⟩, ⟨by omega, by omega⟩, ⟨by omega, by omega⟩, ⟨by omega, by omega⟩, rh1.s E HP⟩
      · obtain ⟨B, E, r⟩ := ih (k + 1) A (by omega) f (fun j j0 j1 => by rw [ctp_f (P := prP v N j) (fun z => q z.1)]; exact h1 j j0 j1) (fun a a0 a1 => by rw [ctp_f (P := prT v N a) (fun z => q z.1)]; exact h3 a a0 a1)
        refine ⟨B, eS.of (fun P HP => ?_), r⟩
        rw [e1, ctp_f (P := prN v N) q] at E
        refine rh1.of (rX32_train_110 hm _ _ _ _ ?_)
        rw [f 0 2 (by omega), h2, es]
        refine ⟨fun _ => ⟨hb1, fun z => hb1 (fun y => z (.inl y)), hb3, ?_⟩, fun z => by omega⟩
        intro c hc
        rw [hc]
        exact ⟨fun z => absurd (z.elim (fun y => .inr (p1.mp y)) (fun y => .inl (p0.mp y))) q, fun _ => ⟨⟨by omega, by omega⟩, rh1.s E HP⟩⟩
  have w2 : ∀ (m : Nat) (k : Int) (A : rhM), k + m = 95 → 0 ≤ k → frx (fun c _ => c = 100 ∨ c = 101) M A → (∀ j, 0 ≤ j → j < 9025 → A 100 j = M 98 j) → (∀ a, 0 ≤ a → a < k → A 101 a = M 99 a) → ∃ B, eS wm YX32_train 2 80 [(0, 2, 0), (1, 0, k)] [] A 202 [(0, 2, 0), (1, 0, ctp (prN v N) (N + 1)), (3, 0, 0)] [] B ∧ frx (fun c _ => c = 100 ∨ c = 101) M B ∧ (∀ j, 0 ≤ j → j < 9025 → B 100 j = M 98 j + ctp (prP v N j) (N + 1)) ∧ ∀ a, 0 ≤ a → a < 95 → B 101 a = M 99 a + ctp (prT v N a) (N + 1) := by
    intro m
    induction m with
    | zero =>
      intro k A hk k0 f h1 h3
      obtain ⟨B, E, r⟩ := w3 (N + 1) 0 A (by omega) f (fun j j0 j1 => by rw [h1 j j0 j1]; show M 98 j = M 98 j + 0; omega) (fun a a0 a1 => by rw [h3 a a0 (by omega)]; show M 99 a = M 99 a + 0; omega)
      have e0 : six (sgn v N (((0 : Nat) : Int) - 1)) = 0 := by
        have : sgn v N (((0 : Nat) : Int) - 1) = 0 := by unfold sgn; exact rh_if_f (fun z => by omega)
        rw [this]; unfold six; rw [rh_if_t rfl]
      rw [e0] at E
      refine ⟨B, eS.of (fun P HP => ?_), r⟩
      refine rh1.of (rX32_train_80 hm _ _ ?_)
      exact ⟨fun z => by omega, fun _ => rh1.s E HP⟩
    | succ m ih =>
      intro k A hk k0 f h1 h3
      obtain ⟨B, E, r⟩ := ih (k + 1) (rh_set A 101 k (M 99 k)) (by omega) (by omega) (f.st (by omega)) (fun j j0 j1 => by rw [rh_set_a (by decide)]; exact h1 j j0 j1) (fun a a0 a1 => by
        by_cases e : a = k
        · rw [e, rh_set_s]
        · rw [rh_set_j e]; exact h3 a a0 (by omega))
      refine ⟨B, eS.of (fun P HP => ?_), r⟩
      refine rh1.of (rX32_train_80 hm _ _ ?_)
      rw [f 99 k (by omega)]
      exact ⟨fun _ => ⟨⟨by omega, by omega⟩, ⟨by omega, by omega⟩, ⟨by omega, by omega⟩, rh1.s E HP⟩, fun z => by omega⟩
  have w1 : ∀ (m : Nat) (k : Int) (A : rhM), k + m = 9025 → 0 ≤ k → frx (fun c _ => c = 100 ∨ c = 101) M A → (∀ j, 0 ≤ j → j < k → A 100 j = M 98 j) → ∃ B, eS wm YX32_train 2 53 [(0, 2, 0), (1, 0, k)] [] A 202 [(0, 2, 0), (1, 0, ctp (prN v N) (N + 1)), (3, 0, 0)] [] B ∧ frx (fun c _ => c = 100 ∨ c = 101) M B ∧ (∀ j, 0 ≤ j → j < 9025 → B 100 j = M 98 j + ctp (prP v N j) (N + 1)) ∧ ∀ a, 0 ≤ a → a < 95 → B 101 a = M 99 a + ctp (prT v N a) (N + 1) := by
    intro m
    induction m with
    | zero =>
      intro k A hk k0 f h1
      obtain ⟨B, E, r⟩ := w2 95 0 A (by omega) (by omega) f (fun j j0 j1 => h1 j j0 (by omega)) (fun a a0 a1 => by omega)
      refine ⟨B, eS.of (fun P HP => ?_), r⟩
      refine rh1.of (rX32_train_53 hm _ _ ?_)
      exact ⟨fun z => by omega, fun _ => rh1.s E HP⟩
    | succ m ih =>
      intro k A hk k0 f h1
      obtain ⟨B, E, r⟩ := ih (k + 1) (rh_set A 100 k (M 98 k)) (by omega) (by omega) (f.st (by omega)) (fun j j0 j1 => by
        by_cases e : j = k
        · rw [e, rh_set_s]
        · rw [rh_set_j e]; exact h1 j j0 (by omega))
      refine ⟨B, eS.of (fun P HP => ?_), r⟩
      refine rh1.of (rX32_train_53 hm _ _ ?_)
      rw [f 98 k (by omega)]
      exact ⟨fun _ => ⟨⟨by omega, by omega⟩, ⟨by omega, by omega⟩, ⟨by omega, by omega⟩, rh1.s E HP⟩, fun z => by omega⟩
  exact w1 9025 0 M (by omega) (by omega) frx.rf (fun j j0 j1 => by omega)
/-- the model keeps what it counted -/
theorem m_trainK (hm : rh_ms wm) {r : Int} (M : rhM) :
    ∃ B, (∀ P : Int → rhM → Prop, P r (rh_set B 0 2 0) → rh1 wm YX32_train 2 235 [(0, 2, 0), (1, 0, r), (3, 0, 0)] [] M P) ∧ frx (fun c _ => c = 98 ∨ c = 99) M B ∧ (∀ j, 0 ≤ j → j < 9025 → B 98 j = M 100 j) ∧ ∀ a, 0 ≤ a → a < 95 → B 99 a = M 101 a := by
  have w2 : ∀ (m : Nat) (k : Int) (A : rhM), k + m = 95 → 0 ≤ k → frx (fun c _ => c = 98 ∨ c = 99) M A → (∀ j, 0 ≤ j → j < 9025 → A 98 j = M 100 j) → (∀ a, 0 ≤ a → a < k → A 99 a = M 101 a) → ∃ B, (∀ P : Int → rhM → Prop, P r (rh_set B 0 2 0) → rh1 wm YX32_train 2 262 [(0, 2, 0), (1, 0, r), (3, 0, k)] [] A P) ∧ frx (fun c _ => c = 98 ∨ c = 99) M B ∧ (∀ j, 0 ≤ j → j < 9025 → B 98 j = M 100 j) ∧ ∀ a, 0 ≤ a → a < 95 → B 99 a = M 101 a := by
    intro m
    induction m with
    | zero =>
      intro k A hk k0 f h1 h3
      refine ⟨A, fun P HP => ?_, f, h1, fun a a0 a1 => h3 a a0 (by omega)⟩
      refine rh1.of (rX32_train_262 hm _ _ _ ?_)
      exact ⟨fun z => by omega, fun _ => HP⟩
    | succ m ih =>
      intro k A hk k0 f h1 h3
      obtain ⟨B, E, rr⟩ := ih (k + 1) (rh_set A 99 k (M 101 k)) (by omega) (by omega) (f.st (by omega)) (fun j j0 j1 => by rw [rh_set_a (by decide)]; exact h1 j j0 j1) (fun a a0 a1 => by
        by_cases e : a = k
        · rw [e, rh_set_s]
        · rw [rh_set_j e]; exact h3 a a0 (by omega))
      refine ⟨B, fun P HP => ?_, rr⟩
      refine rh1.of (rX32_train_262 hm _ _ _ ?_)
      rw [f 101 k (by omega)]
      exact ⟨fun _ => ⟨⟨by omega, by omega⟩, ⟨by omega, by omega⟩, ⟨by omega, by omega⟩, E P HP⟩, fun z => by omega⟩
  have w1 : ∀ (m : Nat) (k : Int) (A : rhM), k + m = 9025 → 0 ≤ k → frx (fun c _ => c = 98 ∨ c = 99) M A → (∀ j, 0 ≤ j → j < k → A 98 j = M 100 j) → ∃ B, (∀ P : Int → rhM → Prop, P r (rh_set B 0 2 0) → rh1 wm YX32_train 2 235 [(0, 2, 0), (1, 0, r), (3, 0, k)] [] A P) ∧ frx (fun c _ => c = 98 ∨ c = 99) M B ∧ (∀ j, 0 ≤ j → j < 9025 → B 98 j = M 100 j) ∧ ∀ a, 0 ≤ a → a < 95 → B 99 a = M 101 a := by
    intro m
    induction m with
    | zero =>
      intro k A hk k0 f h1
      obtain ⟨B, E, rr⟩ := w2 95 0 A (by omega) (by omega) f (fun j j0 j1 => h1 j j0 (by omega)) (fun a a0 a1 => by omega)
      refine ⟨B, fun P HP => ?_, rr⟩
      refine rh1.of (rX32_train_235 hm _ _ _ ?_)
      exact ⟨fun z => by omega, fun _ => E P HP⟩
    | succ m ih =>
      intro k A hk k0 f h1
      obtain ⟨B, E, rr⟩ := ih (k + 1) (rh_set A 98 k (M 100 k)) (by omega) (by omega) (f.st (by omega)) (fun j j0 j1 => by
        by_cases e : j = k
        · rw [e, rh_set_s]
        · rw [rh_set_j e]; exact h1 j j0 (by omega))
      refine ⟨B, fun P HP => ?_, rr⟩
      refine rh1.of (rX32_train_235 hm _ _ _ ?_)
      rw [f 100 k (by omega)]
      exact ⟨fun _ => ⟨⟨by omega, by omega⟩, ⟨by omega, by omega⟩, ⟨by omega, by omega⟩, E P HP⟩, fun z => by omega⟩
  exact w1 9025 0 M (by omega) (by omega) frx.rf (fun j j0 j1 => by omega)
end Train
