/-! ===== LAYER 2: patterns ===== -/
section Match
variable {wh wm : rhW}
def Ft (c t : Int) : Prop := c = 63 ∨ (c = 35 ∧ 48 ≤ t ∧ t ≤ 57) ∨ (c ≠ 35 ∧ c = t)
/-- the first i signs of a pattern fit the first j of a text -/
def Pm (p t : Int → Int) : Nat → Int → Prop
  | 0, j => j = 0
  | i + 1, j => (p i = 42 ∧ ∃ j', 0 ≤ j' ∧ j' ≤ j ∧ Pm p t i j') ∨ (p i ≠ 42 ∧ 0 < j ∧ Ft (p i) (t (j - 1)) ∧ Pm p t i (j - 1))
/-- its last r fit what lies from j on -/
def Sm (p t : Int → Int) (n m : Int) : Nat → Int → Prop
  | 0, j => j = m
  | r + 1, j => (p (n - (r + 1)) = 42 ∧ ∃ j', j ≤ j' ∧ j' ≤ m ∧ Sm p t n m r j') ∨ (p (n - (r + 1)) ≠ 42 ∧ j < m ∧ Ft (p (n - (r + 1))) (t j) ∧ Sm p t n m r (j + 1))
theorem mt_e {p t : Int → Int} {n : Nat} {m : Int} (hm : 0 ≤ m) : Pm p t n m ↔ Sm p t n m n 0 := by
  have st : ∀ i : Nat, i < n → ((∃ j, 0 ≤ j ∧ j ≤ m ∧ Pm p t i j ∧ Sm p t n m (n - i) j) ↔ ∃ j, 0 ≤ j ∧ j ≤ m ∧ Pm p t (i + 1) j ∧ Sm p t n m (n - (i + 1)) j) := fun i hi => by
    have e1 : n - i = (n - (i + 1)) + 1 := by omega
    have e2 : ((n : Int) - (((n - (i + 1) : Nat) : Int) + 1)) = (i : Int) := by omega
    rw [e1]
    constructor
    · rintro ⟨j, j0, j1, h1, h2⟩
      have h2' : (p ((n : Int) - (((n - (i + 1) : Nat) : Int) + 1)) = 42 ∧ ∃ j', j ≤ j' ∧ j' ≤ m ∧ Sm p t n m (n - (i + 1)) j') ∨ (p ((n : Int) - (((n - (i + 1) : Nat) : Int) + 1)) ≠ 42 ∧ j < m ∧ Ft (p ((n : Int) - (((n - (i + 1) : Nat) : Int) + 1))) (t j) ∧ Sm p t n m (n - (i + 1)) (j + 1)) := h2
      rw [e2] at h2'
      rcases h2' with ⟨q, j', a1, a2, a3⟩ | ⟨q, a1, a2, a3⟩
      · exact ⟨j', by omega, a2, .inl ⟨q, j, j0, a1, h1⟩, a3⟩
      · refine ⟨j + 1, by omega, by omega, .inr ⟨q, by omega, ?_, ?_⟩, a3⟩
        · rw [show j + 1 - 1 = j by omega]; exact a2
        · rw [show j + 1 - 1 = j by omega]; exact h1
    · rintro ⟨j, j0, j1, h1, h2⟩
      have mk : ∀ j'', ((p (i : Int) = 42 ∧ ∃ j', j'' ≤ j' ∧ j' ≤ m ∧ Sm p t n m (n - (i + 1)) j') ∨ (p (i : Int) ≠ 42 ∧ j'' < m ∧ Ft (p (i : Int)) (t j'') ∧ Sm p t n m (n - (i + 1)) (j'' + 1))) → Sm p t n m (n - (i + 1) + 1) j'' := fun j'' h => by
        show (p ((n : Int) - (((n - (i + 1) : Nat) : Int) + 1)) = 42 ∧ ∃ j', j'' ≤ j' ∧ j' ≤ m ∧ Sm p t n m (n - (i + 1)) j') ∨ (p ((n : Int) - (((n - (i + 1) : Nat) : Int) + 1)) ≠ 42 ∧ j'' < m ∧ Ft (p ((n : Int) - (((n - (i + 1) : Nat) : Int) + 1))) (t j'') ∧ Sm p t n m (n - (i + 1)) (j'' + 1))
        rw [e2]; exact h
      rcases h1 with ⟨q, j', a1, a2, a3⟩ | ⟨q, a1, a2, a3⟩
      · exact ⟨j', a1, by omega, a3, mk j' (.inl ⟨q, j, a2, j1, h2⟩)⟩
      · refine ⟨j - 1, by omega, by omega, a3, mk (j - 1) (.inr ⟨q, by omega, a2, ?_⟩)⟩
        rw [show j - 1 + 1 = j by omega]; exact h2
  have all : ∀ i : Nat, i ≤ n → ((∃ j, 0 ≤ j ∧ j ≤ m ∧ Pm p t i j ∧ Sm p t n m (n - i) j) ↔ Sm p t n m n 0) := fun i => by
    induction i with
    | zero =>
      intro _
      constructor
      · rintro ⟨j, j0, j1, h1, h2⟩
        have h1' : j = 0 := h1
        rw [h1'] at h2
        exact h2
      · exact fun h => ⟨0, by omega, hm, rfl, h⟩
    | succ i ih => exact fun hi => (st i (by omega)).symm.trans (ih (by omega))
  rw [← all n (Nat.le_refl _), Nat.sub_self]
  constructor
  · exact fun h => ⟨m, hm, Int.le_refl _, h, rfl⟩
  · rintro ⟨j, j0, j1, h1, h2⟩
    have h2' : j = m := h2
    rw [h2'] at h1
    exact h1
theorem Sm_st {p t : Int → Int} {n m j : Int} {r : Nat} (hp : p (n - (r + 1)) = 42) (hj : j ≤ m) : Sm p t n m (r + 1) j ↔ Sm p t n m r j ∨ (j < m ∧ Sm p t n m (r + 1) (j + 1)) := by
  constructor
  · rintro (⟨-, j', a1, a2, a3⟩ | ⟨q, -⟩)
    · by_cases y : j' = j
      · rw [y] at a3; exact .inl a3
      · exact .inr ⟨by omega, .inl ⟨hp, j', by omega, a2, a3⟩⟩
    · exact absurd hp q
  · rintro (h | ⟨h1, h2⟩)
    · exact .inl ⟨hp, j, by omega, hj, h⟩
    · rcases h2 with ⟨-, j', a1, a2, a3⟩ | ⟨q, -⟩
      · exact .inl ⟨hp, j', by omega, a2, a3⟩
      · exact absurd hp q
theorem Sm_ns {p t : Int → Int} {n m j : Int} {r : Nat} (hp : p (n - (r + 1)) ≠ 42) : Sm p t n m (r + 1) j ↔ j < m ∧ Ft (p (n - (r + 1))) (t j) ∧ Sm p t n m r (j + 1) := by
  constructor
  · rintro (⟨q, -⟩ | ⟨-, h⟩)
    · exact absurd q hp
    · exact h
  · exact fun h => .inr ⟨hp, h⟩
theorem Pm_st {p t : Int → Int} {j : Int} {i : Nat} (hp : p i = 42) (hj : 0 ≤ j) : Pm p t (i + 1) j ↔ Pm p t i j ∨ (0 < j ∧ Pm p t (i + 1) (j - 1)) := by
  constructor
  · rintro (⟨-, j', a1, a2, a3⟩ | ⟨q, -⟩)
    · by_cases y : j' = j
      · rw [y] at a3; exact .inl a3
      · exact .inr ⟨by omega, .inl ⟨hp, j', a1, by omega, a3⟩⟩
    · exact absurd hp q
  · rintro (h | ⟨h1, h2⟩)
    · exact .inl ⟨hp, j, hj, by omega, h⟩
    · rcases h2 with ⟨-, j', a1, a2, a3⟩ | ⟨q, -⟩
      · exact .inl ⟨hp, j', a1, by omega, a3⟩
      · exact absurd hp q
theorem Pm_ns {p t : Int → Int} {j : Int} {i : Nat} (hp : p i ≠ 42) : Pm p t (i + 1) j ↔ 0 < j ∧ Ft (p i) (t (j - 1)) ∧ Pm p t i (j - 1) := by
  constructor
  · rintro (⟨q, -⟩ | ⟨-, h⟩)
    · exact absurd q hp
    · exact h
  · exact fun h => .inr ⟨hp, h⟩
theorem ft_h {c t : Int} : rh_if (c ≠ 63) (rh_if ((c ≠ 35) ∨ (¬ ((48 ≤ t) ∧ (t ≤ 57)))) (rh_if ((c ≠ 35) ∧ (c = t)) (1 : Int) 0) 1) 1 = rh_if (Ft c t) 1 0 := by
  unfold Ft
  rw [rh_ifd, rh_ifd, rh_ifd, rh_ifd]
  split <;> split <;> (try split) <;> first | rfl | (exfalso; omega) | (split <;> first | rfl | (exfalso; omega))
theorem ft_m {c t : Int} : rh_if (c ≠ 63) (rh_if (c = 35) (rh_if ((48 ≤ t) ∧ (t ≤ 57)) (1 : Int) 0) (rh_if (c = t) (1 : Int) 0)) 1 = rh_if (Ft c t) 1 0 := by
  unfold Ft
  by_cases h1 : c = 63
  · rw [rh_if_f (fun z => z h1), rh_if_t (.inl h1)]
  · rw [rh_if_t h1]
    by_cases h2 : c = 35
    · rw [rh_if_t h2]
      by_cases h3 : (48 ≤ t) ∧ (t ≤ 57)
      · rw [rh_if_t h3, rh_if_t (.inr (.inl ⟨h2, h3⟩))]
      · rw [rh_if_f h3, rh_if_f (fun z => by omega)]
    · rw [rh_if_f h2]
      by_cases h3 : c = t
      · rw [rh_if_t h3, rh_if_t (.inr (.inr ⟨h2, h3⟩))]
      · rw [rh_if_f h3, rh_if_f (fun z => by omega)]
theorem if10 {P : Prop} : (rh_if P (1 : Int) 0 ≠ 0 ↔ P) ∧ (rh_if P (1 : Int) 0 = 0 ↔ ¬ P) ∧ 0 ≤ rh_if P (1 : Int) 0 ∧ rh_if P (1 : Int) 0 ≤ 1 := by
  by_cases h : P
  · rw [rh_if_t h]; exact ⟨⟨fun _ => h, fun _ => by decide⟩, ⟨fun z => absurd z (by decide), fun z => absurd h z⟩, by decide, by decide⟩
  · rw [rh_if_f h]; exact ⟨⟨fun z => absurd rfl z, fun z => absurd z h⟩, ⟨fun _ => h, fun _ => rfl⟩, by decide, by decide⟩
theorem if_cg {P Q : Prop} {a b : Int} (h : P ↔ Q) : rh_if P a b = rh_if Q a b := by rw [propext h]
/-- rows of the table from k on -/
def Eds (X : rhM) (p t : Int → Int) (n m k : Int) : Prop := ∀ k' j, k ≤ k' → k' ≤ n → 0 ≤ j → j ≤ m → X 232 (13 * k' + j) = rh_if (Sm p t n m (n - k').toNat j) 1 0
theorem h_mtC (hh : rh_hs wh) {A X : rhM} {q x a mm n m k at0 : Int} (hx : rh_bl wh 4 x mm) (hx2 : 563 ≤ x) (hq : 0 ≤ q ∧ q < 24) (ha : 0 ≤ a ∧ a < mm) (hn : 1 ≤ n ∧ n ≤ 12) (hm : 0 ≤ m ∧ m ≤ 12) (hk : 0 ≤ k ∧ k ≤ n) (hat : 0 ≤ at0 ∧ at0 ≤ m) (g : frx (fun c _ => c = 232) A X) (E : Eds X (fun s => A 225 (12 * q + s)) (fun s => A (x + 1) (12 * a + s)) n m (k + 1)) (E2 : at0 < m → X 232 (13 * k + at0 + 1) = rh_if (Sm (fun s => A 225 (12 * q + s)) (fun s => A (x + 1) (12 * a + s)) n m (n - k).toNat (at0 + 1)) 1 0) (P : Int → rhM → Prop) (HP : rh1 wh YX27_matches 3 32 [(0, 2, 221), (1, 0, q), (2, 2, x), (3, 0, a), (4, 0, n), (5, 0, m), (6, 0, k), (7, 0, at0 - 1)] [] (rh_set X 232 (13 * k + at0) (rh_if (Sm (fun s => A 225 (12 * q + s)) (fun s => A (x + 1) (12 * a + s)) n m (n - k).toNat at0) 1 0)) P) : rh1 wh YX27_matches 3 32 [(0, 2, 221), (1, 0, q), (2, 2, x), (3, 0, a), (4, 0, n), (5, 0, m), (6, 0, k), (7, 0, at0)] [] X P := by
  have hb4 : rh_bl wh 4 224 24 := rh_bl.of (o := 224) (m := 24) hh (by decide +kernel)
  obtain ⟨p, hp⟩ : ∃ p : Int → Int, p = fun s => A 225 (12 * q + s) := ⟨_, rfl⟩
  obtain ⟨t, ht⟩ : ∃ t : Int → Int, t = fun s => A (x + 1) (12 * a + s) := ⟨_, rfl⟩
  rw [← hp, ← ht] at E E2 HP
  have hpk : X (224 + 1) (12 * q + k) = p k := by rw [hp]; exact g 225 _ (by omega)
  have htk : X (x + 1) (12 * a + at0) = t at0 := by rw [ht]; exact g _ _ (by omega)
  have G1 := c_get hh hb4 (i := q) (k := k) X
  have G2 := c_get hh hx (i := a) (k := at0) X
  rw [hpk] at G1
  rw [htk] at G2
  rw [show at0 - 1 = at0 + (-1) by omega] at HP
  have ix : 0 ≤ 13 * k + at0 ∧ 13 * k + at0 < 169 := ⟨by omega, by omega⟩
  refine rh1.of (rX27_matches_32 hh _ _ _ _ _ _ _ _ _ hx ?_)
  refine ⟨fun _ => ?_, fun z => by omega⟩
  intro v hv
  by_cases kn : k < n
  · obtain ⟨r, hr⟩ : ∃ r : Nat, (n - k).toNat = r + 1 := ⟨(n - k).toNat - 1, by omega⟩
    have hr2 : (n - (k + 1)).toNat = r := by omega
    have pk : p (n - ((r : Int) + 1)) = p k := by rw [show n - ((r : Int) + 1) = k by omega]
    have v0 : v = 0 := by rw [hv]; exact rh_if_f (fun z => by omega)
    have e1 := E (k + 1) at0 (Int.le_refl _) (by omega) (by omega) (by omega)
    rw [hr2] at e1
    rw [hr] at HP E2
    refine ⟨fun _ => rh1.s (vX27_matches_72 hb4 (G1 ⟨by omega, by omega⟩) (LE0 rfl)) ?_, fun z => absurd kn z⟩
    refine rh1.of (rX27_matches_75 hh _ _ _ _ _ _ _ _ _ _ _ hx ?_)
    by_cases star : p k = 42
    · have es := Sm_st (p := p) (n := n) (r := r) (t := t) (m := m) (j := at0) (by rw [pk]; exact star) hat.2
      rw [e1]
      refine ⟨fun _ => ⟨⟨by omega, by omega⟩, fun z0 => ?_, fun z0 v1 hv1 => ?_⟩, fun z => absurd star z⟩
      · have nS := if10.2.1.mp z0
        refine ⟨fun _ => ⟨by omega, by omega⟩, fun v1 hv1 => ?_⟩
        have ev : v1 = rh_if (Sm p t n m (r + 1) at0) 1 0 := by
          rw [hv1]
          refine if_cg ⟨fun z => es.mpr (.inr ⟨z.1, ?_⟩), fun z => ?_⟩
          · have z2 := z.2
            rw [E2 z.1] at z2
            exact if10.1.mp z2
          · rcases es.mp z with z | ⟨z1, z2⟩
            · exact absurd z nS
            · exact ⟨z1, by rw [E2 z1]; exact if10.1.mpr z2⟩
        rw [ev]
        exact ⟨ix, if10.2.2, ⟨by omega, by omega⟩, HP⟩
      · have yS : Sm p t n m r at0 := Classical.byContradiction (fun y => z0 (if10.2.1.mpr y))
        have ev : v1 = rh_if (Sm p t n m (r + 1) at0) 1 0 := by rw [hv1, rh_if_t (es.mpr (.inl yS))]
        rw [ev]
        exact ⟨ix, if10.2.2, ⟨by omega, by omega⟩, HP⟩
    · have es := Sm_ns (t := t) (m := m) (j := at0) (p := p) (n := n) (r := r) (by rw [pk]; exact star)
      rw [pk] at es
      refine ⟨fun z => absurd z star, fun _ => ⟨fun c => ?_, fun c => ?_⟩⟩
      · have G1' := G1 ⟨by omega, by omega⟩
        refine rh1.s (vX27_matches_154 hb4 G1' (LE0 rfl)) ?_
        refine rh1.of (rX27_matches_157 hh _ _ _ _ _ _ _ _ _ _ hx ?_)
        refine rh1.s (vX27_matches_161 hx (G2 ⟨by omega, by omega⟩) (LE0 rfl)) ?_
        refine rh1.of (rX27_matches_164 hh _ _ _ _ _ _ _ _ _ _ _ hx ?_)
        have e3 := E (k + 1) (at0 + 1) (Int.le_refl _) (by omega) (by omega) (by omega)
        rw [hr2, show 13 * (k + 1) + (at0 + 1) = 13 * (k + 1) + at0 + 1 by omega] at e3
        rw [ft_h, e3]
        refine ⟨if10.2.2, fun _ => ⟨by omega, by omega⟩, fun v1 hv1 => ?_⟩
        have ev : v1 = rh_if (Sm p t n m (r + 1) at0) 1 0 := by
          rw [hv1]
          refine if_cg ⟨fun z => es.mpr ⟨c.2, if10.1.mp z.1, if10.1.mp z.2⟩, fun z => ?_⟩
          have := es.mp z
          exact ⟨if10.1.mpr this.2.1, if10.1.mpr this.2.2⟩
        rw [ev]
        exact ⟨ix, if10.2.2, ⟨by omega, by omega⟩, HP⟩
      · have ev : v = rh_if (Sm p t n m (r + 1) at0) 1 0 := by
          rw [v0, rh_if_f (fun z => c ⟨kn, (es.mp z).1⟩)]
        rw [ev]
        exact ⟨ix, if10.2.2, ⟨by omega, by omega⟩, HP⟩
  · have kn2 : k = n := by omega
    have ev : v = rh_if (Sm p t n m (n - k).toNat at0) 1 0 := by
      rw [hv, show (n - k).toNat = 0 by omega]
      exact if_cg ⟨fun z => z.2, fun z => ⟨kn2, z⟩⟩
    rw [ev]
    exact ⟨fun z => absurd z kn, fun _ => ⟨fun z => absurd z.1 kn, fun _ => ⟨ix, if10.2.2, ⟨by omega, by omega⟩, HP⟩⟩⟩
theorem c_matchH (hh : rh_hs wh) {A : rhM} {q x a mm n m : Int} (hx : rh_bl wh 4 x mm) (hx2 : 563 ≤ x) (hq : 0 ≤ q ∧ q < 24) (ha : 0 ≤ a ∧ a < mm) (hn : 1 ≤ n ∧ n ≤ 12) (hm : 0 ≤ m ∧ m ≤ 12) (h6 : A 226 q = n) (hz : A (x + 2) a = m) : ∃ A', eC wh YX27_matches 3 [(2, 221), (0, q), (2, x), (0, a)] A (rh_if (Sm (fun s => A 225 (12 * q + s)) (fun s => A (x + 1) (12 * a + s)) n m n.toNat 0) 1 0) A' ∧ frx (fun c _ => c = 232) A A' := by
  have row : ∀ (u : Nat) (k at0 : Int) (X : rhM), at0 + 1 = u → at0 ≤ m → 0 ≤ k → k ≤ n → frx (fun c _ => c = 232) A X → Eds X (fun s => A 225 (12 * q + s)) (fun s => A (x + 1) (12 * a + s)) n m (k + 1) → (∀ j, at0 < j → j ≤ m → X 232 (13 * k + j) = rh_if (Sm (fun s => A 225 (12 * q + s)) (fun s => A (x + 1) (12 * a + s)) n m (n - k).toNat j) 1 0) → ∃ X', eS wh YX27_matches 3 32 [(0, 2, 221), (1, 0, q), (2, 2, x), (3, 0, a), (4, 0, n), (5, 0, m), (6, 0, k), (7, 0, at0)] [] X 32 [(0, 2, 221), (1, 0, q), (2, 2, x), (3, 0, a), (4, 0, n), (5, 0, m), (6, 0, k), (7, 0, -1)] [] X' ∧ frx (fun c _ => c = 232) A X' ∧ Eds X' (fun s => A 225 (12 * q + s)) (fun s => A (x + 1) (12 * a + s)) n m k := by
    intro u
    induction u with
    | zero =>
      intro k at0 X hu a1 k0 k1 g E E2
      have ea : at0 = -1 := by omega
      rw [ea] at E2 ⊢
      refine ⟨X, eS.rf, g, fun k' j h1 h2 h3 h4 => ?_⟩
      by_cases y : k' = k
      · rw [y]; exact E2 j (by omega) h4
      · exact E k' j (by omega) h2 h3 h4
    | succ u ih =>
      intro k at0 X hu a1 k0 k1 g E E2
      obtain ⟨X', ES, r⟩ := ih k (at0 - 1) (rh_set X 232 (13 * k + at0) (rh_if (Sm (fun s => A 225 (12 * q + s)) (fun s => A (x + 1) (12 * a + s)) n m (n - k).toNat at0) 1 0)) (by omega) (by omega) k0 k1 (g.st rfl) (fun k' j h1 h2 h3 h4 => by rw [rh_set_j (by omega)]; exact E k' j h1 h2 h3 h4) (fun j j0 j1 => by
        by_cases y : j = at0
        · rw [y, rh_set_s]
        · rw [rh_set_j (by omega)]; exact E2 j (by omega) j1)
      exact ⟨X', eS.of (fun P HP => h_mtC hh hx hx2 hq ha hn hm ⟨k0, k1⟩ ⟨by omega, by omega⟩ g E (fun y => by rw [show 13 * k + at0 + 1 = 13 * k + (at0 + 1) by omega]; exact E2 (at0 + 1) (by omega) (by omega)) P (rh1.s ES HP)), r⟩
  have rows : ∀ (u : Nat) (k : Int) (X : rhM), k + 1 = u → k ≤ n → frx (fun c _ => c = 232) A X → Eds X (fun s => A 225 (12 * q + s)) (fun s => A (x + 1) (12 * a + s)) n m (k + 1) → ∃ X', eS wh YX27_matches 3 23 [(0, 2, 221), (1, 0, q), (2, 2, x), (3, 0, a), (4, 0, n), (5, 0, m), (6, 0, k)] [] X 23 [(0, 2, 221), (1, 0, q), (2, 2, x), (3, 0, a), (4, 0, n), (5, 0, m), (6, 0, -1)] [] X' ∧ frx (fun c _ => c = 232) A X' ∧ Eds X' (fun s => A 225 (12 * q + s)) (fun s => A (x + 1) (12 * a + s)) n m 0 := by
    intro u
    induction u with
    | zero =>
      intro k X hu k1 g E
      have ek : k = -1 := by omega
      rw [ek] at E ⊢
      exact ⟨X, eS.rf, g, E⟩
    | succ u ih =>
      intro k X hu k1 g E
      obtain ⟨X1, E1, g1, D1⟩ := row (m + 1).toNat k m X (by omega) (Int.le_refl _) (by omega) k1 g E (fun j j0 j1 => by omega)
      obtain ⟨X', E2, r⟩ := ih (k - 1) X1 (by omega) (by omega) g1 (by rw [show k - 1 + 1 = k by omega]; exact D1)
      refine ⟨X', eS.of (fun P HP => ?_), r⟩
      refine rh1.of (rX27_matches_23 hh _ _ _ _ _ _ _ _ hx ?_)
      refine ⟨fun _ => rh1.s E1 ?_, fun z => by omega⟩
      refine rh1.of (rX27_matches_32 hh _ _ _ _ _ _ _ _ _ hx ?_)
      refine ⟨fun z => absurd z (by decide), fun _ => ⟨⟨by omega, by omega⟩, ?_⟩⟩
      rw [show k + (-1) = k - 1 by omega]
      exact rh1.s E2 HP
  obtain ⟨A', E, g, D⟩ := rows (n + 1).toNat n A (by omega) (Int.le_refl _) frx.rf (fun k' j h1 h2 => by omega)
  have d0 := D 0 0 (by decide) (by omega) (by decide) hm.1
  rw [show n - 0 = n by omega] at d0
  refine ⟨A', eC.of1 (rC1.of (by decide) (LE0 rfl) ?_), g⟩
  refine rh1.of (rX27_matches_0 hh _ _ _ _ _ hx ?_)
  rw [h6, hz]
  refine ⟨hq, ha, rh1.s E ?_⟩
  refine rh1.of (rX27_matches_23 hh _ _ _ _ _ _ _ _ hx ?_)
  have d0' : A' 232 0 = rh_if (Sm (fun s => A 225 (12 * q + s)) (fun s => A (x + 1) (12 * a + s)) n m n.toNat 0) 1 0 := d0
  rw [d0']
  exact ⟨fun z => absurd z (by decide), fun _ => ⟨if10.2.2, rfl, rfl⟩⟩
/-- the model's table -/
def Fts (X : rhM) (p t : Int → Int) (m : Int) (i : Nat) : Prop := ∀ (i' : Nat) (j : Int), i' < i → 0 ≤ j → j ≤ m → X 192 (13 * i' + j) = rh_if (Pm p t i' j) 1 0
theorem c_matchM (hm : rh_ms wm) {B : rhM} {q w m : Int} {n : Nat} (hq : 0 ≤ q ∧ q < 12) (hw : 0 ≤ w ∧ w < 320) (hn : n ≤ 12) (hm2 : 0 ≤ m ∧ m ≤ 12) (h3 : B 183 q = n) (hz : wsz B w = m) : ∃ B', eC wm YX32_matches 1 [(2, 0), (0, q), (0, w)] B (rh_if (Pm (fun s => B 182 (12 * q + s)) (fun s => wch B w s) n m) 1 0) B' ∧ frx (fun c _ => c = 192) B B' := by
  obtain ⟨p, hp⟩ : ∃ p : Int → Int, p = fun s => B 182 (12 * q + s) := ⟨_, rfl⟩
  obtain ⟨t, ht⟩ : ∃ t : Int → Int, t = fun s => wch B w s := ⟨_, rfl⟩
  rw [← hp, ← ht]
  have row : ∀ (u : Nat) (i : Nat) (j : Int) (X : rhM), j + u = m + 1 → 0 ≤ j → i ≤ n → frx (fun c _ => c = 192) B X → Fts X p t m i → (∀ j', 0 ≤ j' → j' < j → X 192 (13 * i + j') = rh_if (Pm p t i j') 1 0) → ∃ X', eS wm YX32_matches 1 26 [(0, 2, 0), (1, 0, q), (2, 0, w), (3, 0, (n : Int)), (4, 0, m), (5, 0, (i : Int)), (6, 0, j)] [] X 26 [(0, 2, 0), (1, 0, q), (2, 0, w), (3, 0, (n : Int)), (4, 0, m), (5, 0, (i : Int)), (6, 0, m + 1)] [] X' ∧ frx (fun c _ => c = 192) B X' ∧ Fts X' p t m (i + 1) := by
    intro u
    induction u with
    | zero =>
      intro i j X hu j0 i1 g E E2
      have ej : j = m + 1 := by omega
      rw [ej] at E2 ⊢
      refine ⟨X, eS.rf, g, fun i' j' h1 h2 h3 => ?_⟩
      by_cases y : i' = i
      · rw [y]; exact E2 j' h2 (by omega)
      · exact E i' j' (by omega) h2 h3
    | succ u ih =>
      intro i j X hu j0 i1 g E E2
      obtain ⟨X', ES, r⟩ := ih i (j + 1) (rh_set X 192 (13 * i + j) (rh_if (Pm p t i j) 1 0)) (by omega) (by omega) i1 (g.st rfl) (fun i' j' h1 h2 h3 => by rw [rh_set_j (by omega)]; exact E i' j' h1 h2 h3) (fun j' h1 h2 => by
        by_cases y : j' = j
        · rw [y, rh_set_s]
        · rw [rh_set_j (by omega)]; exact E2 j' h1 (by omega))
      refine ⟨X', eS.of (fun P HP => ?_), r⟩
      have HP' := rh1.s ES HP
      have ix : 0 ≤ 13 * (i : Int) + j ∧ 13 * (i : Int) + j < 182 := ⟨by omega, by omega⟩
      refine rh1.of (rX32_matches_26 hm _ _ _ _ _ _ _ ?_)
      refine ⟨fun _ => ?_, fun z => by omega⟩
      intro v hv
      cases i with
      | zero =>
        have ev : v = rh_if (Pm p t 0 j) 1 0 := by
          rw [hv]
          exact if_cg ⟨fun z => z.2, fun z => ⟨rfl, z⟩⟩
        rw [ev]
        exact ⟨fun z => absurd z (by decide), fun _ => ⟨ix, if10.2.2, ⟨by omega, by omega⟩, HP'⟩⟩
      | succ i =>
        have ei : ((i + 1 : Nat) : Int) - 1 = (i : Int) := by omega
        have pk : X 182 (12 * q + ((i + 1 : Nat) : Int) - 1) = p i := by
          rw [hp, g 182 _ (by omega), show 12 * q + ((i + 1 : Nat) : Int) - 1 = 12 * q + (i : Int) by omega]
        have v0 : v = 0 := by rw [hv]; exact rh_if_f (fun z => by omega)
        have e1 := E i j (by omega) j0 (by omega)
        refine ⟨fun _ => ⟨⟨by omega, by omega⟩, ?_⟩, fun z => absurd (by omega) z⟩
        rw [pk]
        intro c hc
        rw [hc, ei]
        by_cases star : p i = 42
        · have es := Pm_st (t := t) (j := j) star j0
          rw [e1]
          refine ⟨fun _ => ⟨⟨by omega, by omega⟩, fun z0 => ?_, fun z0 v1 hv1 => ?_⟩, fun z => absurd star z⟩
          · have nS := if10.2.1.mp z0
            refine ⟨fun _ => ⟨by omega, by omega⟩, fun v1 hv1 => ?_⟩
            have E3 : 0 < j → X 192 (13 * ((i + 1 : Nat) : Int) + j - 1) = rh_if (Pm p t (i + 1) (j - 1)) 1 0 := fun y => by
              rw [show 13 * ((i + 1 : Nat) : Int) + j - 1 = 13 * ((i + 1 : Nat) : Int) + (j - 1) by omega]; exact E2 (j - 1) (by omega) (by omega)
            have ev : v1 = rh_if (Pm p t (i + 1) j) 1 0 := by
              rw [hv1]
              refine if_cg ⟨fun z => es.mpr (.inr ⟨z.1, ?_⟩), fun z => ?_⟩
              · have z2 := z.2
                rw [E3 z.1] at z2
                exact if10.1.mp z2
              · rcases es.mp z with z | ⟨z1, z2⟩
                · exact absurd z nS
                · exact ⟨z1, by rw [E3 z1]; exact if10.1.mpr z2⟩
            rw [ev]
            exact ⟨ix, if10.2.2, ⟨by omega, by omega⟩, HP'⟩
          · have yS : Pm p t i j := Classical.byContradiction (fun y => z0 (if10.2.1.mpr y))
            have ev : v1 = rh_if (Pm p t (i + 1) j) 1 0 := by rw [hv1, rh_if_t (es.mpr (.inl yS))]
            rw [ev]
            exact ⟨ix, if10.2.2, ⟨by omega, by omega⟩, HP'⟩
        · have es := Pm_ns (t := t) (j := j) star
          refine ⟨fun z => absurd z star, fun _ => ⟨fun c0 => ?_, fun c0 => ?_⟩⟩
          · have tw : rh_if ((X 123 w) = 1) (X 127 ((12 * w) + (j - 1))) (X 126 ((48 * w) + (j - 1))) = t (j - 1) := by
              rw [ht, g 123 w (by omega), g 127 _ (by omega), g 126 _ (by omega)]; rfl
            refine ⟨⟨by omega, by omega⟩, hw, fun _ => ⟨by omega, by omega⟩, fun _ => ⟨by omega, by omega⟩, ?_⟩
            rw [tw]
            intro s hs
            rw [hs, ft_m]
            intro f hf
            rw [hf]
            have e3 := E i (j - 1) (by omega) (by omega) (by omega)
            rw [show 13 * (i : Int) + (j - 1) = 13 * (i : Int) + j - 1 by omega] at e3
            rw [e3]
            refine ⟨fun _ => ⟨by omega, by omega⟩, fun v1 hv1 => ?_⟩
            have ev : v1 = rh_if (Pm p t (i + 1) j) 1 0 := by
              rw [hv1]
              refine if_cg ⟨fun z => es.mpr ⟨c0, if10.1.mp z.1, if10.1.mp z.2⟩, fun z => ?_⟩
              have := es.mp z
              exact ⟨if10.1.mpr this.2.1, if10.1.mpr this.2.2⟩
            rw [ev]
            exact ⟨ix, if10.2.2, ⟨by omega, by omega⟩, HP'⟩
          · have ev : v = rh_if (Pm p t (i + 1) j) 1 0 := by
              rw [v0, rh_if_f (fun z => c0 (es.mp z).1)]
            rw [ev]
            exact ⟨ix, if10.2.2, ⟨by omega, by omega⟩, HP'⟩
  have rows : ∀ (u i : Nat) (X : rhM), i + u = n + 1 → frx (fun c _ => c = 192) B X → Fts X p t m i → ∃ X', eS wm YX32_matches 1 17 [(0, 2, 0), (1, 0, q), (2, 0, w), (3, 0, (n : Int)), (4, 0, m), (5, 0, (i : Int))] [] X 17 [(0, 2, 0), (1, 0, q), (2, 0, w), (3, 0, (n : Int)), (4, 0, m), (5, 0, ((n + 1 : Nat) : Int))] [] X' ∧ frx (fun c _ => c = 192) B X' ∧ Fts X' p t m (n + 1) := by
    intro u
    induction u with
    | zero =>
      intro i X hu g E
      have ei : i = n + 1 := by omega
      rw [ei] at E ⊢
      exact ⟨X, eS.rf, g, E⟩
    | succ u ih =>
      intro i X hu g E
      obtain ⟨X1, E1, g1, D1⟩ := row (m + 1).toNat i 0 X (by omega) (by decide) (by omega) g E (fun j j0 j1 => by omega)
      obtain ⟨X', E2, r⟩ := ih (i + 1) X1 (by omega) g1 D1
      refine ⟨X', eS.of (fun P HP => ?_), r⟩
      refine rh1.of (rX32_matches_17 hm _ _ _ _ _ _ ?_)
      refine ⟨fun _ => rh1.s E1 ?_, fun z => by omega⟩
      refine rh1.of (rX32_matches_26 hm _ _ _ _ _ _ _ ?_)
      refine ⟨fun z => by omega, fun _ => ⟨⟨by omega, by omega⟩, ?_⟩⟩
      rw [show (i : Int) + 1 = ((i + 1 : Nat) : Int) by omega]
      exact rh1.s E2 HP
  obtain ⟨B', E, g, D⟩ := rows (n + 1) 0 B (by omega) frx.rf (fun i' j h1 => by omega)
  have d0 := D n m (by omega) hm2.1 (Int.le_refl _)
  refine ⟨B', eC.of1 (rC1.of (by decide) (LE0 rfl) ?_), g⟩
  refine rh1.of (rX32_matches_0 hm _ _ _ ?_)
  refine ⟨⟨by omega, by omega⟩, hw, fun _ => hw, fun _ => ⟨by omega, by omega⟩, fun v hv => ?_⟩
  have ev : v = m := by rw [hv]; exact hz
  rw [h3, ev]
  refine rh1.s E ?_
  refine rh1.of (rX32_matches_17 hm _ _ _ _ _ _ ?_)
  rw [d0]
  exact ⟨fun z => by omega, fun _ => ⟨⟨by omega, by omega⟩, if10.2.2, rfl, rfl⟩⟩
end Match
