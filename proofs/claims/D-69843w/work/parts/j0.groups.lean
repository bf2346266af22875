/-! ===== LAYER 2: groups of words that look alike ===== -/
section Groups
variable {wh wm : rhW}
/-- in how many bits two differ -/
def ham (a b : Int) : Int := ((pop (nJ (rh_lxor a b)) 64 : Nat) : Int)
theorem ham_b (a b : Int) : 0 ≤ ham a b ∧ ham a b ≤ 64 := by
  have : ∀ k : Nat, pop (nJ (rh_lxor a b)) k ≤ k := fun k => by
    induction k with
    | zero => exact Nat.le_refl _
    | succ k ih =>
      show pop (nJ (rh_lxor a b)) k + nJ (rh_lxor a b) / 2 ^ k % 2 ≤ k + 1
      have := Nat.mod_lt (nJ (rh_lxor a b) / 2 ^ k) (show 0 < 2 by decide)
      omega
  have := this 64
  unfold ham
  omega
theorem sh_a : ∀ k : Nat, k < 64 → ((rhI (k : Int)).toInt64 &&& 63) = Int64.ofNat k := by decide +kernel
theorem sh_b : ∀ k : Nat, k < 64 → ((Int64.ofNat k).toBitVec.smod 64).toNat = k := by decide +kernel
theorem bit_e {v : Int} {k : Nat} (hk : k < 64) : (rh_land (rh_lshr v k) 1 = 1 ↔ nJ v / 2 ^ k % 2 = 1) := by
  have h1 : nJ (rh_land (rh_lshr v k) 1) = nJ (rh_lshr v k) % 2 := by
    rw [nJ_and, show nJ 1 = 2 ^ 1 - 1 from rfl, Nat.and_two_pow_sub_one_eq_mod]
  have h2 : nJ (rh_lshr v k) % 2 = nJ v / 2 ^ k % 2 := by
    have e : (rhJ (rh_lshr v k)).toBitVec = (rhJ v).toBitVec.sshiftRight k := by
      unfold rh_lshr
      rw [rJJ]
      rw [sh_a k hk, Int64.toBitVec_shiftRight]
      show (rhJ v).toBitVec.sshiftRight ((Int64.ofNat k).toBitVec.smod 64).toNat = _
      rw [sh_b k hk]
    have n1 : nJ (rh_lshr v k) = ((rhJ v).toBitVec.sshiftRight k).toNat := by rw [← e]; rfl
    have n2 : nJ v = (rhJ v).toBitVec.toNat := rfl
    rw [n1, n2]
    have t1 := Nat.toNat_testBit ((rhJ v).toBitVec.sshiftRight k).toNat 0
    have t2 := Nat.toNat_testBit (rhJ v).toBitVec.toNat k
    rw [show (2 : Nat) ^ 0 = 1 from rfl, Nat.div_one] at t1
    rw [← t1, ← t2]
    show (((rhJ v).toBitVec.sshiftRight k).getLsbD 0).toNat = ((rhJ v).toBitVec.getLsbD k).toNat
    rw [BitVec.getLsbD_sshiftRight]
    simp [hk]
  rw [← h2, ← h1]
  constructor
  · intro h; rw [h]; rfl
  · intro h
    have e : (rhJ (rh_land (rh_lshr v k) 1)).toUInt64 = 1 := UInt64.toNat_inj.mp h
    have e2 : rhJ (rh_land (rh_lshr v k) 1) = 1 := by
      generalize rhJ (rh_land (rh_lshr v k) 1) = z at e
      cases z with
      | ofUInt64 u =>
        have e' : u = 1 := e
        rw [e']; rfl
    have e3 : rh_land (rh_lshr v k) 1 = (rhJ (rh_land (rh_lshr v k) 1)).toInt := by
      unfold rh_land
      rw [rJJ]
    rw [e3, e2]
    rfl
theorem c_unlike (hm : rh_ms wm) {a b : Int} (B : rhM) : eC wm YX32_unlike 0 [(1, a), (1, b)] B (ham a b) B := by
  have lp : ∀ (u k : Nat), k + u = 64 → eS wm YX32_unlike 0 11 [(4, 1, rh_lxor a b), (6, 0, ((pop (nJ (rh_lxor a b)) k : Nat) : Int)), (7, 0, (k : Int))] [] B 11 [(4, 1, rh_lxor a b), (6, 0, ham a b), (7, 0, 64)] [] B := by
    intro u
    induction u with
    | zero =>
      intro k hk
      rw [show k = 64 by omega]
      exact eS.rf
    | succ u ih =>
      intro k hk
      have pk : pop (nJ (rh_lxor a b)) k ≤ k := by
        clear hk ih
        induction k with
        | zero => exact Nat.le_refl _
        | succ k ih =>
          show pop (nJ (rh_lxor a b)) k + nJ (rh_lxor a b) / 2 ^ k % 2 ≤ k + 1
          have := Nat.mod_lt (nJ (rh_lxor a b) / 2 ^ k) (show 0 < 2 by decide)
          omega
      refine eS.of (fun P HP => ?_)
      refine rh1.of (rX32_unlike_11 hm _ _ _ _ ?_)
      refine ⟨fun _ => ?_, fun z => by omega⟩
      intro v hv
      have ev : v = ((pop (nJ (rh_lxor a b)) (k + 1) : Nat) : Int) := by
        rw [hv]
        show _ = ((pop (nJ (rh_lxor a b)) k + nJ (rh_lxor a b) / 2 ^ k % 2 : Nat) : Int)
        have be := bit_e (v := rh_lxor a b) (k := k) (by omega)
        have md := Nat.mod_lt (nJ (rh_lxor a b) / 2 ^ k) (show 0 < 2 by decide)
        by_cases q : rh_land (rh_lshr (rh_lxor a b) k) 1 = 1
        · rw [rh_if_t q, be.mp q]; omega
        · have : nJ (rh_lxor a b) / 2 ^ k % 2 = 0 := by
            have : ¬ nJ (rh_lxor a b) / 2 ^ k % 2 = 1 := fun z => q (be.mpr z)
            omega
          rw [rh_if_f q, this]; omega
      have nx := ih (k + 1) (by omega)
      rw [ev]
      have pk2 : pop (nJ (rh_lxor a b)) (k + 1) ≤ k + 1 := by
        show pop (nJ (rh_lxor a b)) k + nJ (rh_lxor a b) / 2 ^ k % 2 ≤ k + 1
        have := Nat.mod_lt (nJ (rh_lxor a b) / 2 ^ k) (show 0 < 2 by decide)
        omega
      refine ⟨⟨by omega, by omega⟩, ⟨by omega, by omega⟩, ?_⟩
      rw [show (k : Int) + 1 = ((k + 1 : Nat) : Int) by omega]
      exact rh1.s nx HP
  refine eC.of1 (rC1.of (by decide) (LE0 rfl) ?_)
  refine rh1.of (rX32_unlike_0 hm _ _ _ ?_)
  refine rh1.s (lp 64 0 rfl) ?_
  refine rh1.of (rX32_unlike_11 hm _ _ _ _ ?_)
  exact ⟨fun z => absurd z (by decide), fun _ => ⟨rfl, rfl⟩⟩
theorem c_hamH {w : rhW} {a b : Int} (M : rhM) : eC w YJ10_bitCount 0 [(1, rh_lxor a b)] M (ham a b) M := by
  have := c_bitCount (w := w) (v := rh_lxor a b) M
  rw [bcv_e, bct_e (nJ_b _)] at this
  exact this
/-- labels, one gone -/
noncomputable def rlb (g : Int → Int) (go nw K : Int) (t : Int) : Int := rh_if ((0 ≤ t ∧ t < K) ∧ g t = go) nw (g t)
theorem h_rel (hh : rh_hs wh) {A : rhM} {x1 d n y i j go : Int} (hi : 0 ≤ i ∧ i < 80) (hj : 0 ≤ j ∧ j < i) (hg : A 249 j ≠ go) : ∀ (u : Nat) (k : Int) (X : rhM), k + u = i + 1 → 0 ≤ k → (∀ t, X 249 t = rlb (A 249) go (A 249 j) k t) → frx (fun c _ => c = 249) A X → ∃ X', eS wh YX1_groups 5 153 [(0, 2, 0), (1, 0, x1), (2, 0, d), (4, 0, n), (5, 0, y), (6, 0, i), (7, 0, j), (8, 0, go), (9, 0, k)] [] X 153 [(0, 2, 0), (1, 0, x1), (2, 0, d), (4, 0, n), (5, 0, y), (6, 0, i), (7, 0, j), (8, 0, go), (9, 0, i + 1)] [] X' ∧ (∀ t, X' 249 t = rlb (A 249) go (A 249 j) (i + 1) t) ∧ frx (fun c _ => c = 249) A X' := by
  intro u
  induction u with
  | zero =>
    intro k X hk k0 h g
    have ek : k = i + 1 := by omega
    rw [ek] at h ⊢
    exact ⟨X, eS.rf, h, g⟩
  | succ u ih =>
    intro k X hk k0 h g
    have xk : X 249 k = A 249 k := by rw [h]; exact rh_if_f (fun z => by omega)
    have xj : X 249 j = A 249 j := by rw [h]; exact rh_if_f (fun z => hg z.2)
    obtain ⟨X', E, r⟩ := ih (k + 1) (rh_set X 249 k (rh_if (A 249 k = go) (A 249 j) (A 249 k))) (by omega) (by omega) (fun t => by
      by_cases z : t = k
      · rw [z, rh_set_s]
        unfold rlb
        exact if_cg ⟨fun w => ⟨⟨by omega, by omega⟩, w⟩, fun w => w.2⟩
      · rw [rh_set_j z, h t]
        unfold rlb
        exact if_cg ⟨fun w => ⟨by omega, w.2⟩, fun w => ⟨by omega, w.2⟩⟩) (g.st rfl)
    refine ⟨X', eS.of (fun P HP => ?_), r⟩
    refine rh1.of (rX1_groups_153 hh _ _ _ _ _ _ _ _ _ ?_)
    rw [xk, xj]
    refine ⟨fun _ => ⟨⟨by omega, by omega⟩, fun _ => ⟨by omega, by omega⟩, fun _ => ⟨by omega, by omega⟩, ?_⟩, fun z => by omega⟩
    (intro zq hzq; replace hzq := hzq.symm; subst hzq)
    exact ⟨⟨by omega, by omega⟩, ⟨by omega, by omega⟩, rh1.s E HP⟩
theorem m_rel (hm : rh_ms wm) {B : rhM} {d n y i j go : Int} (hn : n ≤ 80) (hi : 0 ≤ i ∧ i < n) (hj : 0 ≤ j ∧ j < i) (hg : B 146 j ≠ go) : ∀ (u : Nat) (k : Int) (X : rhM), k + u = n → 0 ≤ k → (∀ t, X 146 t = rlb (B 146) go (B 146 j) k t) → frx (fun c _ => c = 146) B X → ∃ X', eS wm YX32_groups 5 160 [(0, 2, 0), (2, 0, d), (3, 0, n), (4, 0, y), (5, 0, i), (6, 0, j), (7, 0, go), (8, 0, k)] [] X 160 [(0, 2, 0), (2, 0, d), (3, 0, n), (4, 0, y), (5, 0, i), (6, 0, j), (7, 0, go), (8, 0, n)] [] X' ∧ (∀ t, X' 146 t = rlb (B 146) go (B 146 j) n t) ∧ frx (fun c _ => c = 146) B X' := by
  intro u
  induction u with
  | zero =>
    intro k X hk k0 h g
    have ek : k = n := by omega
    rw [ek] at h ⊢
    exact ⟨X, eS.rf, h, g⟩
  | succ u ih =>
    intro k X hk k0 h g
    have xk : X 146 k = B 146 k := by rw [h]; exact rh_if_f (fun z => by omega)
    have xj : X 146 j = B 146 j := by rw [h]; exact rh_if_f (fun z => hg z.2)
    obtain ⟨X', E, r⟩ := ih (k + 1) (rh_set X 146 k (rh_if (B 146 k = go) (B 146 j) (B 146 k))) (by omega) (by omega) (fun t => by
      by_cases z : t = k
      · rw [z, rh_set_s]
        unfold rlb
        exact if_cg ⟨fun w => ⟨⟨by omega, by omega⟩, w⟩, fun w => w.2⟩
      · rw [rh_set_j z, h t]
        unfold rlb
        exact if_cg ⟨fun w => ⟨by omega, w.2⟩, fun w => ⟨by omega, w.2⟩⟩) (g.st rfl)
    refine ⟨X', eS.of (fun P HP => ?_), r⟩
    refine rh1.of (rX32_groups_160 hm _ _ _ _ _ _ _ _ ?_)
    rw [xk, xj]
    refine ⟨fun _ => ⟨⟨by omega, by omega⟩, fun _ => ⟨by omega, by omega⟩, fun _ => ⟨by omega, by omega⟩, ?_⟩, fun z => by omega⟩
    (intro zq hzq; replace hzq := hzq.symm; subst hzq)
    exact ⟨⟨by omega, by omega⟩, ⟨by omega, by omega⟩, rh1.s E HP⟩
/-- labels and looks on both sides while word i is at hand -/
def Gls (A B : rhM) (L : Int → Int) (n i : Int) : Prop := (∀ t, 0 ≤ t → t ≤ i → A 249 t = B 146 t ∧ 0 ≤ B 146 t ∧ B 146 t ≤ i) ∧ (∀ t, i < t → t < n → B 146 t = t) ∧ (∀ t, 0 ≤ t → t ≤ i → A 248 t = L t) ∧ ∀ t, 0 ≤ t → t < n → B 145 t = L t
theorem t_grj (hh : rh_hs wh) (hm : rh_ms wm) {L : Int → Int} {x1 d n i : Int} (hn : n ≤ 80) (hi : 0 ≤ i ∧ i < n) : ∀ (u : Nat) (j y : Int) (A B : rhM), j + u = i → 0 ≤ j → (n - (80 * i + j) ≤ y ∧ y ≤ n) → Gls A B L n i → ∃ y' A' B', eS wh YX1_groups 5 95 [(0, 2, 0), (1, 0, x1), (2, 0, d), (4, 0, n), (5, 0, y), (6, 0, i), (7, 0, j)] [] A 57 [(0, 2, 0), (1, 0, x1), (2, 0, d), (4, 0, n), (5, 0, y'), (6, 0, i + 1)] [] A' ∧ eS wm YX32_groups 5 103 [(0, 2, 0), (2, 0, d), (3, 0, n), (4, 0, y), (5, 0, i), (6, 0, j)] [] B 94 [(0, 2, 0), (2, 0, d), (3, 0, n), (4, 0, y'), (5, 0, i + 1)] [] B' ∧ (n - (80 * (i + 1)) ≤ y' ∧ y' ≤ n) ∧ Gls A' B' L n i ∧ frx (fun c _ => c = 249) A A' ∧ frx (fun c _ => c = 146) B B' := by
  intro u
  induction u with
  | zero =>
    intro j y A B hj j0 hy G
    have ej : j = i := by omega
    refine ⟨y, A, B, eS.of (fun P HP => ?_), eS.of (fun P HP => ?_), ⟨by omega, by omega⟩, G, frx.rf, frx.rf⟩
    · refine rh1.of (rX1_groups_95 hh _ _ _ _ _ _ _ ?_)
      exact ⟨fun z => by omega, fun _ => ⟨⟨by omega, by omega⟩, HP⟩⟩
    · refine rh1.of (rX32_groups_103 hm _ _ _ _ _ _ ?_)
      exact ⟨fun z => by omega, fun _ => ⟨⟨by omega, by omega⟩, HP⟩⟩
  | succ u ih =>
    intro j y A B hj j0 hy G
    obtain ⟨g1, g2, g3, g4⟩ := id G
    have li := g1 i hi.1 (Int.le_refl _)
    have lj := g1 j j0 (by omega)
    have hamE := ham_b (L i) (L j)
    have goH : ∀ P : Int → rhM → Prop, rh1 wh YX1_groups 5 120 [(0, 2, 0), (1, 0, x1), (2, 0, d), (4, 0, n), (5, 0, y), (6, 0, i), (7, 0, j)] [(0, ham (L i) (L j))] A P → rh1 wh YX1_groups 5 95 [(0, 2, 0), (1, 0, x1), (2, 0, d), (4, 0, n), (5, 0, y), (6, 0, i), (7, 0, j)] [] A P := fun P HP => by
      refine rh1.of (rX1_groups_95 hh _ _ _ _ _ _ _ ?_)
      rw [g3 i hi.1 (Int.le_refl _), g3 j j0 (by omega)]
      exact ⟨fun _ => ⟨⟨by omega, by omega⟩, ⟨by omega, by omega⟩, rh1.s (vX1_groups_117 (c_hamH A) (LE0 rfl)) HP⟩, fun z => by omega⟩
    -- nothing happens
    have skip : ¬ (ham (L i) (L j) ≤ d ∧ B 146 i ≠ B 146 j) → ∃ y' A' B', eS wh YX1_groups 5 95 [(0, 2, 0), (1, 0, x1), (2, 0, d), (4, 0, n), (5, 0, y), (6, 0, i), (7, 0, j)] [] A 57 [(0, 2, 0), (1, 0, x1), (2, 0, d), (4, 0, n), (5, 0, y'), (6, 0, i + 1)] [] A' ∧ eS wm YX32_groups 5 103 [(0, 2, 0), (2, 0, d), (3, 0, n), (4, 0, y), (5, 0, i), (6, 0, j)] [] B 94 [(0, 2, 0), (2, 0, d), (3, 0, n), (4, 0, y'), (5, 0, i + 1)] [] B' ∧ (n - (80 * (i + 1)) ≤ y' ∧ y' ≤ n) ∧ Gls A' B' L n i ∧ frx (fun c _ => c = 249) A A' ∧ frx (fun c _ => c = 146) B B' := fun no => by
      obtain ⟨y', A', B', E1, E2, r⟩ := ih (j + 1) y A B (by omega) (by omega) ⟨by omega, by omega⟩ G
      refine ⟨y', A', B', (eS.of (fun P HP => goH P ?_)).tr E1, (eS.of (fun P HP => ?_)).tr E2, r⟩
      · refine rh1.of (rX1_groups_120 hh _ _ _ _ _ _ _ _ ?_)
        rw [li.1, lj.1]
        exact ⟨fun _ => ⟨by omega, by omega⟩, fun _ => ⟨by omega, by omega⟩, fun z => absurd z no, fun _ => ⟨⟨by omega, by omega⟩, HP⟩⟩
      · refine rh1.of (rX32_groups_103 hm _ _ _ _ _ _ ?_)
        refine ⟨fun _ => ⟨⟨by omega, by omega⟩, ⟨by omega, by omega⟩, fun z => ⟨⟨by omega, by omega⟩, ⟨by omega, by omega⟩, ?_⟩, fun z => ⟨⟨by omega, by omega⟩, HP⟩⟩, fun z => by omega⟩
        rw [g4 i hi.1 hi.2, g4 j j0 (by omega)]
        refine rh1.s (vX32_groups_141 (c_unlike hm B) (LE0 rfl)) ?_
        refine rh1.of (rX32_groups_144 hm _ _ _ _ _ _ _ ?_)
        exact ⟨fun w => absurd ⟨w, z⟩ no, fun _ => ⟨⟨by omega, by omega⟩, HP⟩⟩
    by_cases q : ham (L i) (L j) ≤ d ∧ B 146 i ≠ B 146 j
    case neg => exact skip q
    obtain ⟨go, hgo⟩ : ∃ go, go = B 146 i := ⟨_, rfl⟩
    have hgA : A 249 j ≠ go := by rw [lj.1, hgo]; exact fun z => q.2 z.symm
    have hgB : B 146 j ≠ go := by rw [hgo]; exact fun z => q.2 z.symm
    obtain ⟨A1, F1, a1, f1⟩ := h_rel hh (A := A) (x1 := x1) (d := d) (n := n) (y := y) (i := i) (j := j) (go := go) ⟨by omega, by omega⟩ ⟨by omega, by omega⟩ hgA (i + 1).toNat 0 A (by omega) (by decide) (fun t => (rh_if_f (fun z => by omega)).symm) frx.rf
    obtain ⟨B1, F2, b1, h1⟩ := m_rel hm (B := B) (d := d) (n := n) (y := y) (i := i) (j := j) (go := go) hn hi ⟨by omega, by omega⟩ hgB n.toNat 0 B (by omega) (by decide) (fun t => (rh_if_f (fun z => by omega)).symm) frx.rf
    have G1 : Gls A1 B1 L n i := by
      refine ⟨fun t t0 t1 => ?_, fun t t0 t1 => ?_, fun t t0 t1 => ?_, fun t t0 t1 => ?_⟩
      · have lt := g1 t t0 t1
        rw [a1 t, b1 t]
        unfold rlb
        rw [lt.1, lj.1]
        by_cases z : B 146 t = go
        · rw [rh_if_t ⟨⟨by omega, by omega⟩, z⟩, rh_if_t ⟨⟨by omega, by omega⟩, z⟩]
          exact ⟨rfl, lj.2⟩
        · rw [rh_if_f (fun w => z w.2), rh_if_f (fun w => z w.2)]
          exact ⟨rfl, lt.2⟩
      · rw [b1 t]
        unfold rlb
        rw [rh_if_f (fun w => by have := g2 t t0 t1; have := w.2; omega)]
        exact g2 t t0 t1
      · rw [f1 248 t (by omega)]; exact g3 t t0 t1
      · rw [h1 145 t (by omega)]; exact g4 t t0 t1
    obtain ⟨y', A', B', E1, E2, r1, r2, r3, r4⟩ := ih (j + 1) (y - 1) A1 B1 (by omega) (by omega) ⟨by omega, by omega⟩ G1
    refine ⟨y', A', B', (eS.of (fun P HP => goH P ?_)).tr E1, (eS.of (fun P HP => ?_)).tr E2, r1, r2, f1.tr r3, h1.tr r4⟩
    · refine rh1.of (rX1_groups_120 hh _ _ _ _ _ _ _ _ ?_)
      rw [li.1, lj.1]
      refine ⟨fun _ => ⟨by omega, by omega⟩, fun _ => ⟨by omega, by omega⟩, fun _ => ⟨⟨by omega, by omega⟩, ?_⟩, fun z => absurd q z⟩
      rw [← hgo]
      refine rh1.s F1 ?_
      refine rh1.of (rX1_groups_153 hh _ _ _ _ _ _ _ _ _ ?_)
      refine ⟨fun z => by omega, fun _ => ⟨⟨by omega, by omega⟩, ⟨by omega, by omega⟩, ?_⟩⟩
      rw [show y + (-1) = y - 1 by omega]
      exact HP
    · refine rh1.of (rX32_groups_103 hm _ _ _ _ _ _ ?_)
      refine ⟨fun _ => ⟨⟨by omega, by omega⟩, ⟨by omega, by omega⟩, fun z => ⟨⟨by omega, by omega⟩, ⟨by omega, by omega⟩, ?_⟩, fun z => absurd q.2 z⟩, fun z => by omega⟩
      rw [g4 i hi.1 hi.2, g4 j j0 (by omega)]
      refine rh1.s (vX32_groups_141 (c_unlike hm B) (LE0 rfl)) ?_
      refine rh1.of (rX32_groups_144 hm _ _ _ _ _ _ _ ?_)
      refine ⟨fun _ => ⟨⟨by omega, by omega⟩, ?_⟩, fun w => absurd q.1 w⟩
      rw [← hgo]
      refine rh1.s F2 ?_
      refine rh1.of (rX32_groups_160 hm _ _ _ _ _ _ _ _ ?_)
      refine ⟨fun z => by omega, fun _ => ⟨⟨by omega, by omega⟩, ⟨by omega, by omega⟩, ?_⟩⟩
      rw [show y + (-1) = y - 1 by omega]
      exact HP
def Fgr (c j : Int) : Prop := Flk c j ∨ c = 248 ∨ c = 249
def Ggr (c j : Int) : Prop := (c = 0 ∧ j = 0) ∨ Giw c j ∨ c = 145 ∨ c = 146
theorem op_groups (hh : rh_hs wh) (hm : rh_ms wm) {Mh Mm : rhM} (R : Rpg Mh Mm) (S : Rsr Mh) (Y : Rly Mh Mm) (x1 x2 : Int) : rC2 wh YX1_groups 5 [(2, 0), (0, x1), (0, x2)] Mh wm YX32_groups 5 [(2, 0), (0, x1), (0, x2)] Mm (fun r M' r2 M2' => r = r2 ∧ frx Fgr Mh M' ∧ frx Ggr Mm M2') := by
  obtain ⟨M0, hM0⟩ : ∃ M0, M0 = rh_set Mm 0 0 0 := ⟨_, rfl⟩
  have g0 : frx Ggr Mm M0 := by rw [hM0]; exact frx.rf.st (.inl ⟨rfl, rfl⟩)
  obtain ⟨e, cs⟩ := lay_v R Y x1
  obtain ⟨v, hv⟩ : ∃ v, v = rh_if (¬ (((0 ≤ x1) ∧ (x1 ≤ 7)) ∧ ((Mh (251 + (39 * x1)) 3) ≠ 0))) ((-101) : Int) (rh_if ((Mh ((251 + (39 * x1)) + 9) 0) ≠ 0) (0 : Int) (-103)) := ⟨_, rfl⟩
  rw [← e, ← hv] at cs
  have m4 : M0 4 x1 = Mm 4 x1 := by rw [hM0]; exact rh_set_a (by decide)
  have m23 : M0 23 x1 = Mm 23 x1 := by rw [hM0]; exact rh_set_a (by decide)
  have m26 : M0 26 x1 = Mm 26 x1 := by rw [hM0]; exact rh_set_a (by decide)
  rcases cs with ⟨c, hp0⟩ | ⟨c, hp0, h23⟩ | ⟨c, hp0, h23, h4, -, LL, LW⟩
  · refine ⟨-101, Mh, -101, M0, eC.of1 (rC1.of (by decide) (LE0 rfl) ?_), eC.of1 (rC1.of (by decide) (LE0 rfl) ?_), rfl, frx.rf, g0⟩
    · refine rh1.of (rX1_groups_0 hh _ _ _ ?_)
      rw [← hv]
      exact ⟨fun z => ⟨by omega, by omega⟩, fun z => ⟨by omega, by omega⟩, fun w hw => ⟨fun _ => ⟨rfl, rfl⟩, fun z => absurd (hw.trans c) z⟩⟩
    · refine rh1.of (rX32_groups_0 hm _ _ _ ?_)
      rw [← hM0, m4]
      exact ⟨fun z => ⟨by omega, by omega⟩, fun _ => ⟨rfl, rfl⟩, fun z => absurd (Classical.byContradiction z) hp0⟩
  · have hp : 0 ≤ x1 ∧ x1 < 8 := ⟨by omega, by omega⟩
    by_cases d : (0 ≤ x2) ∧ (x2 ≤ 64)
    · refine ⟨-103, Mh, -103, M0, eC.of1 (rC1.of (by decide) (LE0 rfl) ?_), eC.of1 (rC1.of (by decide) (LE0 rfl) ?_), rfl, frx.rf, g0⟩
      · refine rh1.of (rX1_groups_0 hh _ _ _ ?_)
        rw [← hv]
        refine ⟨fun z => ⟨by omega, by omega⟩, fun z => ⟨by omega, by omega⟩, fun w hw => ⟨fun z => by omega, fun _ => ⟨fun z => absurd d z, fun _ => ⟨fun _ => ⟨by omega, rfl⟩, fun z => by omega⟩⟩⟩⟩
      · refine rh1.of (rX32_groups_0 hm _ _ _ ?_)
        rw [← hM0, m4, m23]
        exact ⟨fun z => ⟨by omega, by omega⟩, fun z => absurd hp0 z, fun _ => ⟨fun z => absurd d z, fun _ => ⟨hp, fun _ => ⟨rfl, rfl⟩, fun z => absurd h23 z⟩⟩⟩
    · refine ⟨-102, Mh, -102, M0, eC.of1 (rC1.of (by decide) (LE0 rfl) ?_), eC.of1 (rC1.of (by decide) (LE0 rfl) ?_), rfl, frx.rf, g0⟩
      · refine rh1.of (rX1_groups_0 hh _ _ _ ?_)
        rw [← hv]
        exact ⟨fun z => ⟨by omega, by omega⟩, fun z => ⟨by omega, by omega⟩, fun w hw => ⟨fun z => by omega, fun _ => ⟨fun _ => ⟨rfl, rfl⟩, fun z => absurd (Classical.byContradiction z) d⟩⟩⟩
      · refine rh1.of (rX32_groups_0 hm _ _ _ ?_)
        rw [← hM0, m4]
        exact ⟨fun z => ⟨by omega, by omega⟩, fun z => absurd hp0 z, fun _ => ⟨fun _ => ⟨rfl, rfl⟩, fun z => absurd (Classical.byContradiction z) d⟩⟩
  · have hp : 0 ≤ x1 ∧ x1 < 8 := ⟨by omega, by omega⟩
    by_cases d : (0 ≤ x2) ∧ (x2 ≤ 64)
    case neg =>
      refine ⟨-102, Mh, -102, M0, eC.of1 (rC1.of (by decide) (LE0 rfl) ?_), eC.of1 (rC1.of (by decide) (LE0 rfl) ?_), rfl, frx.rf, g0⟩
      · refine rh1.of (rX1_groups_0 hh _ _ _ ?_)
        rw [← hv]
        exact ⟨fun z => ⟨by omega, by omega⟩, fun z => ⟨by omega, by omega⟩, fun w hw => ⟨fun z => by omega, fun _ => ⟨fun _ => ⟨rfl, rfl⟩, fun z => absurd (Classical.byContradiction z) d⟩⟩⟩
      · refine rh1.of (rX32_groups_0 hm _ _ _ ?_)
        rw [← hM0, m4]
        exact ⟨fun z => ⟨by omega, by omega⟩, fun z => absurd hp0 z, fun _ => ⟨fun _ => ⟨rfl, rfl⟩, fun z => absurd (Classical.byContradiction z) d⟩⟩
    have P0 : Pgd Mh Mm x1 := ⟨(R x1 hp.1 hp.2).1, hp0.2, S x1 hp.1 hp.2 h4, LL, LW⟩
    obtain ⟨tot, -, WD, -⟩ := LW
    have wd1 := WD.1
    have wd2 := WD.2.1
    clear WD
    obtain ⟨n, hn⟩ : ∃ n, n = Mm 26 x1 := ⟨_, rfl⟩
    rw [← hn] at wd1 wd2 m26
    -- the model's looks
    have PA : ∀ {A B : rhM}, frx Fgr Mh A → frx Ggr Mm B → Pgd A B x1 := fun {A B} f g => P0.fx hp.1 (fun c hc => f.cell (fun j => by unfold Fgr Flk Fpr; omega)) (fun c hc => g.cell (fun j => by unfold Ggr Giw; omega))
    have lk : ∀ {A : rhM} (i : Int), frx Fgr Mh A → lkV A x1 i = lkV Mh x1 i := fun {A} i f => lkV_f hp.1 (fun c hc => f.cell (fun j => by unfold Fgr Flk Fpr; omega))
    have b26 : ∀ {B : rhM}, frx Ggr Mm B → B 26 x1 = n := fun {B} g => by rw [g 26 x1 (by unfold Ggr Giw; omega), hn]
    have L1 : ∀ (u : Nat) (i : Int) (B : rhM), i + u = n → 0 ≤ i → frx Ggr Mm B → (∀ t, 0 ≤ t → t < i → B 145 t = lkV Mh x1 t ∧ B 146 t = t) → ∃ B', eS wm YX32_groups 5 53 [(0, 2, 0), (1, 0, x1), (2, 0, x2), (3, 0, n), (4, 0, i)] [] B 53 [(0, 2, 0), (1, 0, x1), (2, 0, x2), (3, 0, n), (4, 0, n)] [] B' ∧ frx Ggr Mm B' ∧ ∀ t, 0 ≤ t → t < n → B' 145 t = lkV Mh x1 t ∧ B' 146 t = t := by
      intro u
      induction u with
      | zero =>
        intro i B hi i0 g h
        have ei : i = n := by omega
        rw [ei] at h ⊢
        exact ⟨B, eS.rf, g, h⟩
      | succ u ih =>
        intro i B hi i0 g h
        obtain ⟨A', B1, -, EB, -, gB⟩ := t_lookW hh hm (PA frx.rf g) hp (i := i) (by rw [b26 g]; exact ⟨by omega, by omega⟩)
        have g1 : frx Ggr Mm (rh_set (rh_set B1 145 i (lkV Mh x1 i)) 146 i i) := ((g.tr (gB.w (fun c j h => .inr (.inl h)))).st (.inr (.inr (.inl rfl)))).st (.inr (.inr (.inr rfl)))
        obtain ⟨B', E, r⟩ := ih (i + 1) _ (by omega) (by omega) g1 (fun t t0 t1 => by
          by_cases z : t = i
          · rw [z, rh_set_a (by decide), rh_set_s, rh_set_s]; exact ⟨rfl, rfl⟩
          · rw [rh_set_a (by decide), rh_set_j z, rh_set_j z, rh_set_a (by decide), gB 145 t (by unfold Giw; omega), gB 146 t (by unfold Giw; omega)]
            exact h t t0 (by omega))
        refine ⟨B', eS.of (fun P HP => ?_), r⟩
        refine rh1.of (rX32_groups_53 hm _ _ _ _ _ ?_)
        refine ⟨fun _ => rh1.s (vX32_groups_69 hm EB (LE0 rfl)) ?_, fun z => by omega⟩
        refine rh1.of (rX32_groups_72 hm _ _ _ _ _ _ _ ?_)
        exact ⟨⟨by omega, by omega⟩, ⟨by omega, by omega⟩, ⟨by omega, by omega⟩, rh1.s E HP⟩
    obtain ⟨B1, E1, gB1, lb1⟩ := L1 n.toNat 0 M0 (by omega) (by decide) g0 (fun t t0 t1 => by omega)
    -- the rounds
    have main : ∀ (u : Nat) (i y : Int) (A B : rhM), i + u = n → 0 ≤ i → (n - 80 * i ≤ y ∧ y ≤ n) → frx Fgr Mh A → frx Ggr Mm B → (∀ t, 0 ≤ t → t < i → A 249 t = B 146 t ∧ 0 ≤ B 146 t ∧ B 146 t < i) → (∀ t, i ≤ t → t < n → B 146 t = t) → (∀ t, 0 ≤ t → t < i → A 248 t = lkV Mh x1 t) → (∀ t, 0 ≤ t → t < n → B 145 t = lkV Mh x1 t) → ∃ y' A' B', (∀ P : Int → rhM → Prop, P y' A' → rh1 wh YX1_groups 5 57 [(0, 2, 0), (1, 0, x1), (2, 0, x2), (4, 0, n), (5, 0, y), (6, 0, i)] [] A P) ∧ (∀ P : Int → rhM → Prop, P y' B' → rh1 wm YX32_groups 5 94 [(0, 2, 0), (2, 0, x2), (3, 0, n), (4, 0, y), (5, 0, i)] [] B P) ∧ frx Fgr Mh A' ∧ frx Ggr Mm B' := by
      intro u
      induction u with
      | zero =>
        intro i y A B hi i0 hy f g h1 h2 h3 h4
        refine ⟨y, A, B, fun P HP => ?_, fun P HP => ?_, f, g⟩
        · refine rh1.of (rX1_groups_57 hh _ _ _ _ _ _ ?_)
          exact ⟨fun z => by omega, fun _ => HP⟩
        · refine rh1.of (rX32_groups_94 hm _ _ _ _ _ ?_)
          exact ⟨fun z => by omega, fun _ => HP⟩
      | succ u ih =>
        intro i y A B hi i0 hy f g h1 h2 h3 h4
        obtain ⟨A1, B', EA, -, fA, -⟩ := t_lookW hh hm (PA f g) hp (i := i) (by rw [b26 g]; exact ⟨by omega, by omega⟩)
        rw [lk i f] at EA
        obtain ⟨A2, hA2⟩ : ∃ A2, A2 = rh_set (rh_set A1 248 i (lkV Mh x1 i)) 249 i i := ⟨_, rfl⟩
        have f2 : frx Fgr Mh A2 := by rw [hA2]; exact ((f.tr (fA.w (fun c j h => .inl h))).st (.inr (.inl rfl))).st (.inr (.inr rfl))
        have G : Gls A2 B (lkV Mh x1) n i := by
          refine ⟨fun t t0 t1 => ?_, fun t t0 t1 => h2 t (by omega) t1, fun t t0 t1 => ?_, h4⟩
          · by_cases z : t = i
            · rw [z, hA2, rh_set_s, h2 i (Int.le_refl _) (by omega)]; exact ⟨rfl, ⟨by omega, by omega⟩⟩
            · rw [hA2, rh_set_j z, rh_set_a (by decide), fA 249 t (by unfold Flk Fpr; omega)]
              have := h1 t t0 (by omega)
              exact ⟨this.1, this.2.1, by omega⟩
          · by_cases z : t = i
            · rw [z, hA2, rh_set_a (by decide), rh_set_s]
            · rw [hA2, rh_set_a (by decide), rh_set_j z, fA 248 t (by unfold Flk Fpr; omega)]
              exact h3 t t0 (by omega)
        obtain ⟨y1, A3, B3, F1, F2, yb, G3, q1, q2⟩ := t_grj hh hm (x1 := x1) (d := x2) wd2.2 ⟨i0, by omega⟩ i.toNat 0 y A2 B (by omega) (by decide) ⟨by omega, by omega⟩ G
        obtain ⟨z1, z2, z3, z4⟩ := G3
        obtain ⟨y', A', B'', H1, H2, r⟩ := ih (i + 1) y1 A3 B3 (by omega) (by omega) yb (f2.tr (q1.w (fun c j h => .inr (.inr h)))) (g.tr (q2.w (fun c j h => .inr (.inr (.inr h))))) (fun t t0 t1 => by have := z1 t t0 (by omega); exact ⟨this.1, this.2.1, by omega⟩) (fun t t0 t1 => z2 t (by omega) t1) (fun t t0 t1 => z3 t t0 (by omega)) z4
        refine ⟨y', A', B'', fun P HP => ?_, fun P HP => ?_, r⟩
        · refine rh1.of (rX1_groups_57 hh _ _ _ _ _ _ ?_)
          refine ⟨fun _ => ⟨hp, rh1.s (vX1_groups_79 hh EA (LE0 rfl)) ?_⟩, fun z => by omega⟩
          refine rh1.of (rX1_groups_82 hh _ _ _ _ _ _ _ _ ?_)
          rw [← hA2]
          exact ⟨⟨by omega, by omega⟩, ⟨by omega, by omega⟩, rh1.s F1 (H1 P HP)⟩
        · refine rh1.of (rX32_groups_94 hm _ _ _ _ _ ?_)
          exact ⟨fun _ => rh1.s F2 (H2 P HP), fun z => by omega⟩
    obtain ⟨y', A', B', H1, H2, fA, gB⟩ := main n.toNat 0 n Mh B1 (by omega) (by decide) ⟨by omega, by omega⟩ frx.rf gB1 (fun t t0 t1 => by omega) (fun t t0 t1 => (lb1 t t0 t1).2) (fun t t0 t1 => by omega) (fun t t0 t1 => (lb1 t t0 t1).1)
    refine ⟨y', A', y', B', eC.of1 (rC1.of (by decide) (LE0 rfl) ?_), eC.of1 (rC1.of (by decide) (LE0 rfl) ?_), rfl, fA, gB⟩
    · refine rh1.of (rX1_groups_0 hh _ _ _ ?_)
      rw [← hv, wd1]
      refine ⟨fun z => ⟨by omega, by omega⟩, fun z => ⟨by omega, by omega⟩, fun w hw => ⟨fun z => by omega, fun _ => ⟨fun z => absurd d z, fun _ => ⟨fun z => by omega, fun _ => ⟨hp, fun w2 hw2 => ?_⟩⟩⟩⟩⟩
      rw [hw2]
      exact H1 _ ⟨rfl, rfl⟩
    · refine rh1.of (rX32_groups_0 hm _ _ _ ?_)
      rw [← hM0, m4, m23, m26]
      refine ⟨fun z => ⟨by omega, by omega⟩, fun z => absurd hp0 z, fun _ => ⟨fun z => absurd d z, fun _ => ⟨hp, fun z => absurd z h23, fun _ => ⟨hp, fun w hw => ?_⟩⟩⟩⟩
      rw [hw]
      refine rh1.s E1 ?_
      refine rh1.of (rX32_groups_53 hm _ _ _ _ _ ?_)
      exact ⟨fun z => by omega, fun _ => H2 _ ⟨rfl, rfl⟩⟩
end Groups
