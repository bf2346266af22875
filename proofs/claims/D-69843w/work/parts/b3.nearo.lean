/-! ===== LAYER 2: near words in order, op near ===== -/
section NearO
variable {wh wm : rhW}
/-- the list a of length c: members P, in the order of D, then of number -/
def Nls (D : Int → Int) (P : Int → Prop) (a : Int → Int) (c : Int) : Prop := (∀ j, 0 ≤ j → j < c → P (a j)) ∧ (∀ w, P w → ∃ j, 0 ≤ j ∧ j < c ∧ a j = w) ∧ ∀ i j, 0 ≤ i → i < j → j < c → D (a i) < D (a j) ∨ (D (a i) = D (a j) ∧ a i < a j)
theorem Nls.u {D : Int → Int} {P : Int → Prop} {a b : Int → Int} {c c' : Int} (h : Nls D P a c) (g : Nls D P b c') (c0 : 0 ≤ c) (c0' : 0 ≤ c') : c = c' ∧ ∀ i, 0 ≤ i → i < c → a i = b i := by
  obtain ⟨h1, h2, h3⟩ := h
  obtain ⟨g1, g2, g3⟩ := g
  have key : ∀ (v : Nat) (i : Int), i = v → i < c → i < c' → a i = b i := by
    intro v
    induction v using Nat.strongRecOn with
    | ind v ih =>
      intro i hi i1 i2
      obtain ⟨j, j0, j1, j2⟩ := g2 (a i) (h1 i (by omega) i1)
      obtain ⟨k, k0, k1, k2⟩ := h2 (b i) (g1 i (by omega) i2)
      have nj : ¬ j < i := fun z => by
        have e := ih j.toNat (by omega) j (by omega) (by omega) (by omega)
        have := h3 j i j0 z i1
        rw [e, j2] at this
        omega
      have nk : ¬ k < i := fun z => by
        have e := ih k.toNat (by omega) k (by omega) (by omega) (by omega)
        have := g3 k i k0 z i2
        rw [← e, k2] at this
        omega
      by_cases ej : j = i
      · rw [ej] at j2; exact j2.symm
      · by_cases ek : k = i
        · rw [ek] at k2; exact k2
        · have q1 := g3 i j (by omega) (by omega) j1
          have q2 := h3 i k (by omega) (by omega) k1
          rw [j2] at q1
          rw [k2] at q2
          omega
  have e : c = c' := by
    by_cases z : c < c'
    · obtain ⟨j, j0, j1, j2⟩ := h2 (b c) (g1 c (by omega) z)
      have := key j.toNat j (by omega) j1 (by omega)
      have q := g3 j c j0 j1 z
      rw [← this, j2] at q
      omega
    · by_cases z2 : c' < c
      · obtain ⟨j, j0, j1, j2⟩ := g2 (a c') (h1 c' (by omega) z2)
        have := key j.toNat j (by omega) (by omega) j1
        have q := h3 j c' j0 j1 z2
        rw [this, j2] at q
        omega
      · omega
  exact ⟨e, fun i i0 i1 => key i.toNat i (by omega) i1 (by omega)⟩
theorem Nls.cg {D : Int → Int} {P Q : Int → Prop} {a b : Int → Int} {c : Int} (h : Nls D P a c) (e : ∀ w, P w ↔ Q w) (ab : ∀ j, 0 ≤ j → j < c → b j = a j) : Nls D Q b c := by
  obtain ⟨h1, h2, h3⟩ := h
  refine ⟨fun j j0 j1 => by rw [ab j j0 j1]; exact (e _).mp (h1 j j0 j1), fun w hw => ?_, fun i j i0 i1 j1 => by rw [ab i i0 (by omega), ab j (by omega) j1]; exact h3 i j i0 i1 j1⟩
  obtain ⟨j, j0, j1, j2⟩ := h2 w ((e w).mpr hw)
  exact ⟨j, j0, j1, by rw [ab j j0 j1]; exact j2⟩
/-- one more, at place q -/
theorem Nls.ins {D : Int → Int} {P Q : Int → Prop} {a b : Int → Int} {c q i : Int} (h : Nls D P a c) (hq : 0 ≤ q ∧ q ≤ c) (hi : ∀ w, P w → w < i) (lo : ∀ j, 0 ≤ j → j < q → D (a j) ≤ D i) (hi2 : ∀ j, q ≤ j → j < c → D i < D (a j)) (b1 : ∀ j, 0 ≤ j → j < q → b j = a j) (b2 : b q = i) (b3 : ∀ j, q < j → j ≤ c → b j = a (j - 1)) (hQ : ∀ w, Q w ↔ (P w ∨ w = i)) : Nls D Q b (c + 1) := by
  obtain ⟨h1, h2, h3⟩ := h
  refine ⟨fun j j0 j1 => (hQ _).mpr ?_, fun w hw => ?_, fun u v u0 u1 v1 => ?_⟩
  · by_cases z : j < q
    · rw [b1 j j0 z]; exact .inl (h1 j j0 (by omega))
    · by_cases z2 : j = q
      · rw [z2, b2]; exact .inr rfl
      · rw [b3 j (by omega) (by omega)]; exact .inl (h1 _ (by omega) (by omega))
  · rcases (hQ w).mp hw with z | z
    · obtain ⟨j, j0, j1, j2⟩ := h2 w z
      by_cases y : j < q
      · exact ⟨j, j0, (by omega), by rw [b1 j j0 y]; exact j2⟩
      · exact ⟨j + 1, (by omega), (by omega), by rw [b3 (j + 1) (by omega) (by omega), show j + 1 - 1 = j by omega]; exact j2⟩
    · exact ⟨q, hq.1, (by omega), by rw [b2, z]⟩
  · by_cases z : v < q
    · rw [b1 u u0 (by omega), b1 v (by omega) z]; exact h3 u v u0 u1 (by omega)
    · by_cases z2 : v = q
      · rw [z2, b2, b1 u u0 (by omega)]
        have := lo u u0 (by omega)
        have := hi _ (h1 u u0 (by omega))
        omega
      · rw [b3 v (by omega) (by omega)]
        by_cases y : u < q
        · rw [b1 u u0 y]; exact h3 u (v - 1) u0 (by omega) (by omega)
        · by_cases y2 : u = q
          · rw [y2, b2]; exact .inl (hi2 _ (by omega) (by omega))
          · rw [b3 u (by omega) (by omega)]; exact h3 (u - 1) (v - 1) (by omega) (by omega) (by omega)
theorem ctp_i {P Q : Int → Prop} {w : Int} : ∀ k : Nat, 0 ≤ w → w < k → ¬ P w → (∀ v, Q v ↔ (P v ∨ v = w)) → ctp Q k = ctp P k + 1
  | 0 => fun w0 w1 _ _ => by omega
  | k + 1 => fun w0 w1 hP hQ => by
    by_cases z : w = k
    · rw [z] at hP hQ
      rw [ctp_t (P := Q) ((hQ _).mpr (.inr rfl)), ctp_f (P := P) hP, ctp_cg (P := Q) (Q := P) k (fun j j0 j1 => by rw [hQ]; exact ⟨fun h => h.resolve_right (by omega), .inl⟩)]
    · have e := ctp_i (P := P) (Q := Q) k w0 (by omega) hP hQ
      by_cases y : P k
      · rw [ctp_t (P := Q) ((hQ _).mpr (.inl y)), ctp_t (P := P) y, e]
      · rw [ctp_f (P := Q) (fun h => ((hQ _).mp h).elim y (fun h => z h.symm)), ctp_f (P := P) y, e]
/-- the house's insertion -/
theorem h_nins (hh : rh_hs wh) {k i d c : Int} {a D : Int → Int} (hc : 0 ≤ c ∧ c < 150) (hi : 0 ≤ i ∧ i < 150) (M : rhM) : ∀ (p : Nat) (X : rhM), (p : Int) ≤ c → frx (fun c _ => c = 77 ∨ c = 78) M X → (∀ j : Int, 0 ≤ j → j < p → X 77 j = a j ∧ X 78 j = D (a j)) → (∀ j : Int, p < j → j ≤ c → X 77 j = a (j - 1) ∧ X 78 j = D (a (j - 1))) → (∀ j : Int, p ≤ j → j < c → d < D (a j)) →
    ∃ (q : Int) (X' : rhM), (0 ≤ q ∧ q ≤ c) ∧ eS wh YX18_findNear 2 39 [(0, 2, 63), (1, 0, k), (2, 0, i), (3, 0, d), (4, 0, (p : Int))] [] X 7 [(0, 2, 63), (1, 0, k), (2, 0, i + 1)] [] X' ∧ frx (fun c _ => c = 77 ∨ c = 78) M X' ∧ (∀ j, 0 ≤ j → j < q → X' 77 j = a j ∧ X' 78 j = D (a j)) ∧ (X' 77 q = i ∧ X' 78 q = d) ∧ (∀ j, q < j → j ≤ c → X' 77 j = a (j - 1) ∧ X' 78 j = D (a (j - 1))) ∧ (q = 0 ∨ D (a (q - 1)) ≤ d) ∧ (∀ j, q ≤ j → j < c → d < D (a j)) := by
  have stop : ∀ (p : Int) (X : rhM), 0 ≤ p → p ≤ c → frx (fun c _ => c = 77 ∨ c = 78) M X → (∀ j : Int, 0 ≤ j → j < p → X 77 j = a j ∧ X 78 j = D (a j)) → (∀ j : Int, p < j → j ≤ c → X 77 j = a (j - 1) ∧ X 78 j = D (a (j - 1))) → (∀ j : Int, p ≤ j → j < c → d < D (a j)) → (p = 0 ∨ D (a (p - 1)) ≤ d) → ∃ (q : Int) (X' : rhM), (0 ≤ q ∧ q ≤ c) ∧ eS wh YX18_findNear 2 39 [(0, 2, 63), (1, 0, k), (2, 0, i), (3, 0, d), (4, 0, p)] [] X 7 [(0, 2, 63), (1, 0, k), (2, 0, i + 1)] [] X' ∧ frx (fun c _ => c = 77 ∨ c = 78) M X' ∧ (∀ j, 0 ≤ j → j < q → X' 77 j = a j ∧ X' 78 j = D (a j)) ∧ (X' 77 q = i ∧ X' 78 q = d) ∧ (∀ j, q < j → j ≤ c → X' 77 j = a (j - 1) ∧ X' 78 j = D (a (j - 1))) ∧ (q = 0 ∨ D (a (q - 1)) ≤ d) ∧ (∀ j, q ≤ j → j < c → d < D (a j)) := by
    intro p X p0 pc f h1 h2 h3 h4
    refine ⟨p, rh_set (rh_set X 77 p i) 78 p d, ⟨p0, pc⟩, eS.of (fun P HP => ?_), (f.st (by omega)).st (by omega), fun j j0 j1 => ?_, ⟨?_, rh_set_s _ _ _ _⟩, fun j j0 j1 => ?_, h4, h3⟩
    · refine rh1.of (rX18_findNear_39 hh _ _ _ _ _ ?_)
      refine ⟨fun _ => ⟨by omega, by omega⟩, fun z => ?_, fun _ => ⟨⟨by omega, by omega⟩, ⟨by omega, by omega⟩, ⟨by omega, by omega⟩, HP⟩⟩
      have := (h1 (p - 1) (by omega) (by omega)).2
      omega
    · rw [rh_set_a (by decide), rh_set_j (by omega), rh_set_j (by omega), rh_set_a (by decide)]; exact h1 j j0 j1
    · rw [rh_set_a (by decide), rh_set_s]
    · rw [rh_set_a (by decide), rh_set_j (by omega), rh_set_j (by omega), rh_set_a (by decide)]; exact h2 j j0 j1
  intro p
  induction p with
  | zero =>
    intro X pc f h1 h2 h3
    exact stop 0 X (by omega) (by omega) f h1 h2 h3 (.inl rfl)
  | succ p ih =>
    intro X pc f h1 h2 h3
    obtain ⟨v1, v2⟩ := h1 p (by omega) (by omega)
    by_cases y : d < D (a p)
    · obtain ⟨q, X', hq, E, r⟩ := ih (rh_set (rh_set X 77 ((p : Int) + 1) (a p)) 78 ((p : Int) + 1) (D (a p))) (by omega) ((f.st (by omega)).st (by omega)) (fun j j0 j1 => by
        rw [rh_set_a (by decide), rh_set_j (by omega), rh_set_j (by omega), rh_set_a (by decide)]; exact h1 j j0 (by omega)) (fun j j0 j1 => by
        by_cases e : j = (p : Int) + 1
        · rw [e, rh_set_a (by decide), rh_set_s, rh_set_s, show (p : Int) + 1 - 1 = p by omega]; exact ⟨rfl, rfl⟩
        · rw [rh_set_a (by decide), rh_set_j e, rh_set_j e, rh_set_a (by decide)]; exact h2 j (by omega) j1) (fun j j0 j1 => by
        by_cases e : j = p
        · rw [e]; exact y
        · exact h3 j (by omega) j1)
      refine ⟨q, X', hq, eS.of (fun P HP => ?_), r⟩
      refine rh1.of (rX18_findNear_39 hh _ _ _ _ _ ?_)
      have e0 : ((p + 1 : Nat) : Int) = (p : Int) + 1 := (by omega)
      rw [e0, show (p : Int) + 1 - 1 = p by omega, v1, v2]
      refine ⟨fun _ => ⟨by omega, by omega⟩, fun _ => ⟨⟨by omega, by omega⟩, ⟨by omega, by omega⟩, ?_⟩, fun z => absurd (show 0 < (p : Int) + 1 ∧ d < D (a p) from ⟨(by omega), y⟩) z⟩
      intro M3 e3
      have e4 : M3 78 p = D (a p) := by rw [e3, rh_set_a (by decide)]; exact v2
      rw [e4, e3, show (p : Int) + 1 + -1 = p by omega]
      exact ⟨⟨by omega, by omega⟩, ⟨by omega, by omega⟩, ⟨by omega, by omega⟩, rh1.s E HP⟩
    · refine stop ((p + 1 : Nat) : Int) X (by omega) pc f h1 h2 h3 (.inr ?_)
      rw [show ((p + 1 : Nat) : Int) - 1 = p by omega]
      omega
/-- findNear -/
def Fnr (c j : Int) : Prop := (76 ≤ c ∧ c ≤ 78) ∨ (c = 63 ∧ j = 15)
theorem c_findNear (hh : rh_hs wh) {N : Nat} {k m : Int} {len : Int → Int} {E : Int → Int → Int → Prop} (hN : N ≤ 150) (hm' : 0 ≤ m ∧ m ≤ 12) (M : rhM) (h0 : M 63 1 = N) (h2 : M 69 0 = m) (h1 : ∀ w : Int, 0 ≤ w → w < N → M 66 w = len w ∧ (0 ≤ len w ∧ len w ≤ 12) ∧ ∀ t s, 0 ≤ t → t < len w → 0 ≤ s → s < m → (M 65 (12 * w + t) = M 68 s ↔ E w t s)) :
    ∃ (c : Int) (M' : rhM), eC wh YX18_findNear 2 [(2, 63), (0, k)] M c M' ∧ (0 ≤ c ∧ c ≤ N) ∧ M' 63 15 = c ∧ frx Fnr M M' ∧ Nls (fun w => dL (E w) (len w) m) (fun w => 0 ≤ w ∧ w < N ∧ dL (E w) (len w) m ≤ k) (M' 77) c := by
  obtain ⟨D, hD⟩ : ∃ D : Int → Int, D = fun w => dL (E w) (len w) m := ⟨_, rfl⟩
  rw [← hD]
  have eD : ∀ w, dL (E w) (len w) m = D w := fun w => by rw [hD]
  simp only [eD]
  have key : ∀ (u : Nat) (i : Nat) (c : Int) (X : rhM), i + u = N → (0 ≤ c ∧ c ≤ i) → X 63 15 = c → frx Fnr M X → (∀ j, 0 ≤ j → j < c → X 78 j = D (X 77 j)) → Nls D (fun w => 0 ≤ w ∧ w < i ∧ D w ≤ k) (X 77) c → ∃ (c' : Int) (M' : rhM), (∀ P : Int → rhM → Prop, P c' M' → rh1 wh YX18_findNear 2 7 [(0, 2, 63), (1, 0, k), (2, 0, (i : Int))] [] X P) ∧ (0 ≤ c' ∧ c' ≤ N) ∧ M' 63 15 = c' ∧ frx Fnr M M' ∧ Nls D (fun w => 0 ≤ w ∧ w < N ∧ D w ≤ k) (M' 77) c' := by
    intro u
    induction u with
    | zero =>
      intro i c X hi hc hX f hS L
      have e : i = N := (by omega)
      rw [e] at L hc ⊢
      refine ⟨c, X, fun P HP => ?_, hc, hX, f, L⟩
      refine rh1.of (rX18_findNear_7 hh _ _ _ ?_)
      rw [f 63 1 (by unfold Fnr; omega), h0, hX]
      exact ⟨fun z => by omega, fun _ => HP⟩
    | succ u ih =>
      intro i c X hi hc hX f hS L
      obtain ⟨l1, l2, l3⟩ := h1 i (by omega) (by omega)
      obtain ⟨r, X1, K, hr, f1⟩ := c_changesH hh (E := E i) (i := i) (n := len i) (m := m) ⟨by omega, by omega⟩ l2 hm' X ((f 66 _ (by unfold Fnr; omega)).trans l1) ((f 69 _ (by unfold Fnr; omega)).trans h2) (fun t s t0 t1 s0 s1 => by rw [f 65 _ (by unfold Fnr; omega), f 68 _ (by unfold Fnr; omega)]; exact l3 t s t0 t1 s0 s1)
      rw [hr, eD] at K
      have fM : frx Fnr M X1 := f.tr (f1.w (fun c j h => by unfold Fnr; omega))
      have x15 : X1 63 15 = c := by rw [f1 63 15 (by omega)]; exact hX
      have x1 : X1 63 1 = N := by rw [fM 63 1 (by unfold Fnr; omega)]; exact h0
      by_cases q : D i ≤ k
      · obtain ⟨v, X2, hv, E2, f2, a1, a2, a3, a4, a5⟩ := h_nins hh (k := k) (i := i) (d := D i) (c := c) (a := X 77) (D := D) ⟨by omega, by omega⟩ ⟨by omega, by omega⟩ (rh_set X1 63 15 (c + 1)) c.toNat (rh_set X1 63 15 (c + 1)) (by omega) frx.rf (fun j j0 j1 => by
          rw [rh_set_a (by decide), rh_set_a (by decide), f1 77 j (by omega), f1 78 j (by omega)]
          exact ⟨rfl, hS j j0 (by omega)⟩) (fun j j0 j1 => by omega) (fun j j0 j1 => by omega)
        rw [show ((c.toNat : Nat) : Int) = c by omega] at E2
        have lo : ∀ j, 0 ≤ j → j < v → D (X 77 j) ≤ D i := fun j j0 j1 => by
          rcases a4 with z | z
          · omega
          · by_cases e : j = v - 1
            · rw [e]; exact z
            · have := L.2.2 j (v - 1) j0 (by omega) (by omega)
              omega
        have L2 : Nls D (fun w => 0 ≤ w ∧ w < ((i + 1 : Nat) : Int) ∧ D w ≤ k) (X2 77) (c + 1) := L.ins hv (fun w hw => hw.2.1) lo a5 (fun j j0 j1 => (a1 j j0 j1).1) a2.1 (fun j j0 j1 => (a3 j j0 j1).1) (fun w => by
          refine ⟨fun z => ?_, fun z => ?_⟩
          · by_cases y : w = i
            · exact .inr y
            · exact .inl ⟨z.1, (by omega), z.2.2⟩
          · rcases z with z | z
            · exact ⟨z.1, (by omega), z.2.2⟩
            · rw [z]; exact ⟨(by omega), (by omega), q⟩)
        have f3 : frx Fnr M X2 := (fM.st (by unfold Fnr; omega)).tr (f2.w (fun c j h => by unfold Fnr; omega))
        obtain ⟨c', M', EE, rr⟩ := ih (i + 1) (c + 1) X2 (by omega) ⟨by omega, by omega⟩ (by rw [f2 63 15 (by omega), rh_set_s]) f3 (fun j j0 j1 => by
          by_cases z : j < v
          · rw [(a1 j j0 z).1, (a1 j j0 z).2]
          · by_cases z2 : j = v
            · rw [z2, a2.1, a2.2]
            · rw [(a3 j (by omega) (by omega)).1, (a3 j (by omega) (by omega)).2]) L2
        refine ⟨c', M', fun P HP => ?_, rr⟩
        refine rh1.of (rX18_findNear_7 hh _ _ _ ?_)
        rw [f 63 1 (by unfold Fnr; omega), h0]
        refine ⟨fun _ => ?_, fun z => by omega⟩
        refine rh1.s (vX18_findNear_17 hh K (LE0 rfl)) ?_
        refine rh1.of (rX18_findNear_20 hh _ _ _ _ ?_)
        rw [x15]
        refine ⟨fun _ => ⟨⟨by omega, by omega⟩, ?_⟩, fun z => absurd q z⟩
        exact rh1.s E2 (EE P HP)
      · obtain ⟨c', M', EE, rr⟩ := ih (i + 1) c X1 (by omega) ⟨by omega, by omega⟩ x15 fM (fun j j0 j1 => by rw [f1 77 j (by omega), f1 78 j (by omega)]; exact hS j j0 j1) (L.cg (fun w => by
          refine ⟨fun z => ⟨z.1, (by omega), z.2.2⟩, fun z => ⟨z.1, ?_, z.2.2⟩⟩
          have : w ≠ i := fun y => q (by rw [← y]; exact z.2.2)
          omega) (fun j j0 j1 => f1 77 j (by omega)))
        refine ⟨c', M', fun P HP => ?_, rr⟩
        refine rh1.of (rX18_findNear_7 hh _ _ _ ?_)
        rw [f 63 1 (by unfold Fnr; omega), h0]
        refine ⟨fun _ => ?_, fun z => by omega⟩
        refine rh1.s (vX18_findNear_17 hh K (LE0 rfl)) ?_
        refine rh1.of (rX18_findNear_20 hh _ _ _ _ ?_)
        exact ⟨fun z => absurd z q, fun _ => ⟨⟨by omega, by omega⟩, EE P HP⟩⟩
  obtain ⟨c, M', EE, rr⟩ := key N 0 0 (rh_set M 63 15 0) (by omega) ⟨by omega, by omega⟩ (rh_set_s _ _ _ _) (frx.rf.st (by unfold Fnr; omega)) (fun j j0 j1 => by omega) ⟨fun j j0 j1 => by omega, fun w hw => by have := hw.2.1; have := hw.1; omega, fun i j i0 i1 j1 => by omega⟩
  refine ⟨c, M', eC.of1 (rC1.of (by decide) (LE0 rfl) ?_), rr⟩
  refine rh1.of (rX18_findNear_0 hh _ _ ?_)
  exact EE _ ⟨rfl, rfl⟩
/-- the model's near -/
def Gnr (c j : Int) : Prop := c = 96 ∨ c = 97 ∨ (c = 0 ∧ j = 132)
theorem m_near2 (hm : rh_ms wm) {N : Nat} {k m : Int} {len : Int → Int} {E : Int → Int → Int → Prop} (hN : N ≤ 150) (hk : 0 ≤ k ∧ k ≤ 3) (hm' : 0 ≤ m ∧ m ≤ 12) (M : rhM) (h0 : M 0 120 = N) (h2 : M 0 2 = m) (h1 : ∀ w : Int, 0 ≤ w → w < N → M 89 w = len w ∧ (0 ≤ len w ∧ len w ≤ 12) ∧ ∀ t s, 0 ≤ t → t < len w → 0 ≤ s → s < m → (M 88 (12 * w + t) = M 1 s ↔ E w t s)) :
    ∃ (c : Int) (M' : rhM), (∀ P : Int → rhM → Prop, P c (rh_set M' 0 2 0) → rh1 wm YX32_near 2 43 [(0, 2, 0), (1, 0, k), (2, 0, 0)] [] (rh_set M 0 132 0) P) ∧ (0 ≤ c ∧ c ≤ N) ∧ M' 0 132 = c ∧ frx Gnr M M' ∧ Nls (fun w => dL (E w) (len w) m) (fun w => 0 ≤ w ∧ w < N ∧ dL (E w) (len w) m ≤ k) (M' 97) c := by
  obtain ⟨D, hD⟩ : ∃ D : Int → Int, D = fun w => dL (E w) (len w) m := ⟨_, rfl⟩
  rw [← hD]
  have eD : ∀ w, dL (E w) (len w) m = D w := fun w => by rw [hD]
  simp only [eD]
  have D0 : ∀ w : Int, 0 ≤ w → w < N → 0 ≤ D w := fun w w0 w1 => by
    rw [← eD]
    exact (dL_b (h1 w w0 w1).2.1.1 hm'.1).1
  have key : ∀ (u : Nat) (d : Int) (c : Int) (X : rhM), d + u = k + 1 → 0 ≤ d → c = ctp (fun w => D w < d) N → X 0 132 = c → frx Gnr M X → Nls D (fun w => 0 ≤ w ∧ w < N ∧ D w < d) (X 97) c → ∃ (c' : Int) (M' : rhM), (∀ P : Int → rhM → Prop, P c' (rh_set M' 0 2 0) → rh1 wm YX32_near 2 43 [(0, 2, 0), (1, 0, k), (2, 0, d)] [] X P) ∧ (0 ≤ c' ∧ c' ≤ N) ∧ M' 0 132 = c' ∧ frx Gnr M M' ∧ Nls D (fun w => 0 ≤ w ∧ w < N ∧ D w ≤ k) (M' 97) c' := by
    intro u
    induction u with
    | zero =>
      intro d c X hd d0 hc hX f L
      have b := ctp_b (fun w => D w < d) N
      refine ⟨c, X, fun P HP => ?_, ⟨by omega, by omega⟩, hX, f, L.cg (fun w => ?_) (fun _ _ _ => rfl)⟩
      · refine rh1.of (rX32_near_43 hm _ _ _ ?_)
        rw [hX]
        exact ⟨fun z => by omega, fun _ => HP⟩
      · refine ⟨fun z => ⟨z.1, z.2.1, ?_⟩, fun z => ⟨z.1, z.2.1, ?_⟩⟩
        · have := z.2.2; omega
        · have := z.2.2; omega
    | succ u ih =>
      intro d c X hd d0 hc hX f L
      have key2 : ∀ (v : Nat) (i : Nat) (c : Int) (X : rhM), i + v = N → c = ctp (fun w => D w < d ∨ (D w = d ∧ w < i)) N → X 0 132 = c → frx Gnr M X → Nls D (fun w => 0 ≤ w ∧ w < N ∧ (D w < d ∨ (D w = d ∧ w < i))) (X 97) c → ∃ (c' : Int) (M' : rhM), (∀ P : Int → rhM → Prop, P c' (rh_set M' 0 2 0) → rh1 wm YX32_near 2 50 [(0, 2, 0), (1, 0, k), (2, 0, d), (3, 0, (i : Int))] [] X P) ∧ (0 ≤ c' ∧ c' ≤ N) ∧ M' 0 132 = c' ∧ frx Gnr M M' ∧ Nls D (fun w => 0 ≤ w ∧ w < N ∧ D w ≤ k) (M' 97) c' := by
        intro v
        induction v with
        | zero =>
          intro i c X hi hc hX f L
          have e : i = N := (by omega)
          rw [e] at L hc ⊢
          obtain ⟨c', M', EE, rr⟩ := ih (d + 1) c X (by omega) (by omega) (by
            rw [hc]
            refine ctp_cg N (fun w w0 w1 => ?_)
            constructor
            · intro z; rcases z with z | z <;> omega
            · intro z
              by_cases y : D w < d
              · exact .inl y
              · exact .inr ⟨(by omega), w1⟩) hX f (L.cg (fun w => by
            refine ⟨fun z => ⟨z.1, z.2.1, ?_⟩, fun z => ⟨z.1, z.2.1, ?_⟩⟩
            · rcases z.2.2 with y | y <;> omega
            · by_cases y : D w < d
              · exact .inl y
              · have := z.2.2; exact .inr ⟨(by omega), z.2.1⟩) (fun _ _ _ => rfl))
          refine ⟨c', M', fun P HP => ?_, rr⟩
          refine rh1.of (rX32_near_50 hm _ _ _ _ ?_)
          rw [f 0 120 (by unfold Gnr; omega), h0]
          exact ⟨fun z => by omega, fun _ => ⟨⟨by omega, by omega⟩, EE P HP⟩⟩
        | succ v ih2 =>
          intro i c X hi hc hX f L
          obtain ⟨l1, l2, l3⟩ := h1 i (by omega) (by omega)
          obtain ⟨r, X1, K, hr, f1⟩ := c_changesM hm (E := E i) (i := i) (n := len i) (m := m) ⟨by omega, by omega⟩ l2 hm' X ((f 89 _ (by unfold Gnr; omega)).trans l1) (fun t s t0 t1 s0 s1 => by rw [f 88 _ (by unfold Gnr; omega), f 1 _ (by unfold Gnr; omega)]; exact l3 t s t0 t1 s0 s1)
          rw [hr, eD] at K
          have fM : frx Gnr M X1 := f.tr (f1.w (fun c j h => by unfold Gnr; omega))
          have x15 : X1 0 132 = c := by rw [f1 0 132 (by omega)]; exact hX
          by_cases q : D i = d
          · have hQ : ∀ w : Int, (D w < d ∨ (D w = d ∧ w < ((i + 1 : Nat) : Int))) ↔ ((D w < d ∨ (D w = d ∧ w < i)) ∨ w = i) := fun w => by
              constructor
              · intro z
                rcases z with z | z
                · exact .inl (.inl z)
                · by_cases y : w = i
                  · exact .inr y
                  · exact .inl (.inr ⟨z.1, (by omega)⟩)
              · intro z
                rcases z with (z | z) | z
                · exact .inl z
                · exact .inr ⟨z.1, (by omega)⟩
                · rw [z]; exact .inr ⟨q, (by omega)⟩
            have ec := ctp_i (P := fun w => D w < d ∨ (D w = d ∧ w < i)) (Q := fun w => D w < d ∨ (D w = d ∧ w < ((i + 1 : Nat) : Int))) (w := i) N (by omega) (by omega) (fun z => by rcases z with z | z <;> omega) hQ
            have b0 := ctp_b (fun w => D w < d ∨ (D w = d ∧ w < i)) N
            have b1 := ctp_b (fun w => D w < d ∨ (D w = d ∧ w < ((i + 1 : Nat) : Int))) N
            have cb : 0 ≤ c ∧ c < 150 := ⟨by omega, by omega⟩
            obtain ⟨c', M', EE, rr⟩ := ih2 (i + 1) (c + 1) (rh_set (rh_set X1 97 c i) 0 132 (c + 1)) (by omega) (by rw [ec, ← hc]) (rh_set_s _ _ _ _) ((fM.st (by unfold Gnr; omega)).st (by unfold Gnr; omega)) (by
              have L1 : Nls D (fun w => 0 ≤ w ∧ w < N ∧ (D w < d ∨ (D w = d ∧ w < i))) (X1 97) c := L.cg (fun w => Iff.rfl) (fun j j0 j1 => f1 97 j (by omega))
              obtain ⟨g1, g2, g3⟩ := L1
              refine ⟨fun j j0 j1 => ?_, fun w hw => ?_, fun a b a0 a1 b1 => ?_⟩
              · rw [rh_set_a (by decide)]
                by_cases e : j = c
                · rw [e, rh_set_s]; exact ⟨(by omega), (by omega), .inr ⟨q, (by omega)⟩⟩
                · rw [rh_set_j e]
                  obtain ⟨y1, y2, y3⟩ := g1 j j0 (by omega)
                  exact ⟨y1, y2, (hQ _).mpr (.inl y3)⟩
              · rcases (hQ w).mp hw.2.2 with z | z
                · obtain ⟨j, j0, j1, j2⟩ := g2 w ⟨hw.1, hw.2.1, z⟩
                  exact ⟨j, j0, (by omega), by rw [rh_set_a (by decide), rh_set_j (by omega)]; exact j2⟩
                · exact ⟨c, (by omega), (by omega), by rw [rh_set_a (by decide), rh_set_s]; exact z.symm⟩
              · rw [rh_set_a (by decide), rh_set_j (show a ≠ c by omega), rh_set_a (by decide)]
                by_cases e : b = c
                · rw [e, rh_set_s]
                  obtain ⟨y1, y2, y3⟩ := g1 a a0 (by omega)
                  rcases y3 with y3 | y3 <;> omega
                · rw [rh_set_j e]; exact g3 a b a0 a1 (by omega))
            refine ⟨c', M', fun P HP => ?_, rr⟩
            refine rh1.of (rX32_near_50 hm _ _ _ _ ?_)
            rw [f 0 120 (by unfold Gnr; omega), h0, f 0 2 (by unfold Gnr; omega), h2]
            refine ⟨fun _ => ?_, fun z => by omega⟩
            refine rh1.s (vX32_near_64 hm K (LE0 rfl)) ?_
            refine rh1.of (rX32_near_67 hm _ _ _ _ _ ?_)
            rw [x15]
            refine ⟨fun _ => ⟨cb, ?_⟩, fun z => absurd q z⟩
            intro M3 e3
            have e4 : M3 0 132 = c := by rw [e3, rh_set_a (by decide)]; exact x15
            rw [e4, e3]
            exact ⟨⟨by omega, by omega⟩, ⟨by omega, by omega⟩, EE P HP⟩
          · have hQ : ∀ w : Int, (D w < d ∨ (D w = d ∧ w < ((i + 1 : Nat) : Int))) ↔ (D w < d ∨ (D w = d ∧ w < i)) := fun w => by
              constructor
              · intro z
                rcases z with z | z
                · exact .inl z
                · refine .inr ⟨z.1, ?_⟩
                  have : w ≠ i := fun y => q (by rw [← y]; exact z.1)
                  omega
              · intro z
                rcases z with z | z
                · exact .inl z
                · exact .inr ⟨z.1, (by omega)⟩
            obtain ⟨c', M', EE, rr⟩ := ih2 (i + 1) c X1 (by omega) (by rw [hc]; exact ctp_cg N (fun w _ _ => (hQ w).symm)) x15 fM (L.cg (fun w => ⟨fun z => ⟨z.1, z.2.1, (hQ w).mpr z.2.2⟩, fun z => ⟨z.1, z.2.1, (hQ w).mp z.2.2⟩⟩) (fun j j0 j1 => f1 97 j (by omega)))
            refine ⟨c', M', fun P HP => ?_, rr⟩
            refine rh1.of (rX32_near_50 hm _ _ _ _ ?_)
            rw [f 0 120 (by unfold Gnr; omega), h0, f 0 2 (by unfold Gnr; omega), h2]
            refine ⟨fun _ => ?_, fun z => by omega⟩
            refine rh1.s (vX32_near_64 hm K (LE0 rfl)) ?_
            refine rh1.of (rX32_near_67 hm _ _ _ _ _ ?_)
            exact ⟨fun z => absurd z q, fun _ => ⟨⟨by omega, by omega⟩, EE P HP⟩⟩
      have hP : ∀ w : Int, 0 ≤ w → (D w < d ↔ (D w < d ∨ (D w = d ∧ w < ((0 : Nat) : Int)))) := fun w w0 => ⟨.inl, fun z => by rcases z with z | z <;> omega⟩
      obtain ⟨c', M', EE, rr⟩ := key2 N 0 c X (by omega) (by rw [hc]; exact ctp_cg N (fun w w0 _ => hP w w0)) hX f (L.cg (fun w => ⟨fun z => ⟨z.1, z.2.1, (hP w z.1).mp z.2.2⟩, fun z => ⟨z.1, z.2.1, (hP w z.1).mpr z.2.2⟩⟩) (fun _ _ _ => rfl))
      refine ⟨c', M', fun P HP => ?_, rr⟩
      refine rh1.of (rX32_near_43 hm _ _ _ ?_)
      exact ⟨fun _ => EE P HP, fun z => by omega⟩
  refine key (k + 1).toNat 0 0 (rh_set M 0 132 0) (by omega) (by omega) ?_ (rh_set_s _ _ _ _) (frx.rf.st (by unfold Gnr; omega)) ⟨fun j j0 j1 => by omega, fun w hw => ?_, fun i j i0 i1 j1 => by omega⟩
  · have e : ctp (fun w => D w < 0) N = ctp (fun _ => False) N := ctp_cg N (fun w w0 w1 => ⟨fun z => by have := D0 w w0 w1; omega, fun z => z.elim⟩)
    rw [e, ctp_z]
  · have := D0 w hw.1 hw.2.1
    have := hw.2.2
    omega
def Pnear (Mh Mm M' M2' : rhM) : Prop := Rtp M' M2' ∧ Rnr M' M2' ∧ frx (fun c j => Ftp c j ∨ c = 68 ∨ c = 69 ∨ Fnr c j) Mh M' ∧ frx (fun c j => (c = 0 ∧ (j = 0 ∨ j = 2)) ∨ Gnr c j) Mm M2'
theorem op_near (hh : rh_hs wh) (hm : rh_ms wm) {Mh Mm : rhM} (T : Rtp Mh Mm) (W : Rwl Mh Mm) (R : Rnr Mh Mm) (x1 : Int) : rC2 wh YX1_near 3 [(2, 0), (0, x1)] Mh wm YX32_near 2 [(2, 0), (0, x1)] Mm (fun r M' r2 M2' => r = r2 ∧ Pnear Mh Mm M' M2') := by
  refine rC2.of (by decide) (LE0 rfl) (by decide) (LE0 rfl) ?_
  have T0 := T
  obtain ⟨t1, t2, t3, t4⟩ := T
  obtain ⟨N, hN, hN1⟩ := W.n
  obtain ⟨w1, w2, w3⟩ := W
  rw [hN] at w1 w3
  obtain ⟨n, hn⟩ : ∃ n, Mm 0 2 = n := ⟨_, rfl⟩
  rw [hn] at t1 t2 t3 t4
  have e2 : rh_set Mm 0 0 0 0 2 = n := by rw [rh_set_j (by decide)]; exact hn
  have R0 : ∀ A B : rhM, frx (fun c j => Ftp c j ∨ c = 68 ∨ c = 69) Mh A → frx (fun c j => c = 0 ∧ (j = 0 ∨ j = 2)) Mm B → Rnr A B := fun A B fA fB => by
    obtain ⟨a1, a2, a3⟩ := R
    unfold Rnr
    rw [fA 63 15 (by unfold Ftp; omega), fB 0 132 (by omega)]
    exact ⟨a1, a2, fun i i0 i1 => by rw [fA 77 i (by unfold Ftp; omega), fB 97 i (by omega)]; exact a3 i i0 i1⟩
  refine rh2.l (rX1_near_0 hh _ _ ?_)
  refine ⟨fun c => ?_, fun c => ?_⟩
  · refine rh1.of (rX32_near_0 hm _ _ ?_)
    refine ⟨fun _ => ⟨rfl, ?_, R0 _ _ frx.rf (frx.rf.st (by omega)), frx.rf, frx.rf.st (by omega)⟩, fun z => absurd c z⟩
    refine ⟨by rw [e2]; exact t1, by rw [e2]; exact t2, by rw [e2]; exact t3, fun k k0 k1 => ?_⟩
    rw [e2] at k1
    rw [rh_set_a (by decide)]
    exact t4 k k0 k1
  have hk : 0 ≤ x1 ∧ x1 ≤ 3 := ⟨by omega, by omega⟩
  by_cases q : 12 < n
  · refine rh2.sl (vX1_near_16 hh ((c_takeAsked hh Mh t1 ⟨by omega, by omega⟩).1 q) (LE0 rfl)) ?_
    refine rh2.l (rX1_near_19 hh _ _ _ ?_)
    refine ⟨fun z => absurd rfl z, fun _ => ?_⟩
    refine rh1.of (rX32_near_0 hm _ _ ?_)
    rw [e2]
    have fa : frx (fun c j => Ftp c j ∨ c = 68 ∨ c = 69) Mh (rh_set (rh_set Mh 1 3 0) 1 2 0) := (frx.rf.st (by unfold Ftp; omega)).st (by unfold Ftp; omega)
    have fb : frx (fun c j => c = 0 ∧ (j = 0 ∨ j = 2)) Mm (rh_set (rh_set Mm 0 0 0) 0 2 0) := (frx.rf.st (by omega)).st (by omega)
    refine ⟨fun z => absurd z c, fun _ => ⟨fun _ => ⟨rfl, Rtp.use (Mh := Mh) (Mm := Mm) (rh_set_s _ _ _ _) (rh_set_s _ _ _ _), R0 _ _ fa fb, fa.w (fun c j h => h.elim .inl (fun h => h.elim (fun h => .inr (.inl h)) (fun h => .inr (.inr (.inl h))))), fb.w (fun c j h => .inl h)⟩, fun z => absurd q z⟩⟩
  · have hn12 : n ≤ 12 := (by omega)
    refine rh2.sl (vX1_near_16 hh ((c_takeAsked hh Mh t1 ⟨by omega, by omega⟩).2 hn12) (LE0 rfl)) ?_
    obtain ⟨A, hA⟩ : ∃ A, A = m_ask (rh_set (rh_set Mh 1 3 0) 1 2 0) 0 n := ⟨_, rfl⟩
    have fA : frx (fun c j => Ftp c j ∨ c = 68 ∨ c = 69) Mh A := by
      rw [hA]
      exact (((frx.rf.st (by unfold Ftp; omega)).st (by unfold Ftp; omega)).cpy (fun j _ _ => (by omega))).st (by omega)
    have a69 : A 69 0 = n := by rw [hA]; exact rh_set_s _ _ _ _
    have a12 : A 1 2 = 0 := by
      rw [hA]
      unfold m_ask
      rw [rh_set_a (by decide), rh_cpy_a (by decide), rh_set_s]
    have a68 : ∀ t, 0 ≤ t → t < n → A 68 t = Mh 2 t := fun t t0 t1 => by
      rw [hA]
      unfold m_ask rh_cpy
      rw [rh_set_a (by decide), if_pos rfl, if_pos (by omega), rh_set_a (by decide), rh_set_a (by decide)]
      congr 1
      omega
    rw [← hA]
    obtain ⟨c1, A2, KA, cA, nA, fA2, LA⟩ := c_findNear hh (k := x1) (m := n) (len := Mm 89) (E := fun w t s => Mm 88 (12 * w + t) = Mm 1 s) hN1 ⟨by omega, by omega⟩ A ((fA 63 1 (by unfold Ftp; omega)).trans w1) a69 (fun w w0 w1' => by
      obtain ⟨y1, y2, y3⟩ := w3 w w0 w1'
      rw [fA 66 w (by unfold Ftp; omega)]
      refine ⟨y1, ⟨by omega, by omega⟩, fun t s t0 t1 s0 s1 => ?_⟩
      obtain ⟨u1, u2⟩ := y3 t t0 t1
      obtain ⟨v1, v2, v3⟩ := t4 s s0 s1
      rw [fA 65 _ (by unfold Ftp; omega), a68 s s0 s1, u1, ← v1]
      have := by_p (c := Mm 88 (12 * w + t)) v3 ⟨by omega, by omega⟩
      exact ⟨fun h => (this.mpr h.symm).symm, fun h => (this.mp h.symm).symm⟩)
    obtain ⟨c2, B2, KB, cB, nB, fB2, LB⟩ := m_near2 hm (N := N) (k := x1) (m := n) (len := Mm 89) (E := fun w t s => Mm 88 (12 * w + t) = Mm 1 s) hN1 hk ⟨by omega, by omega⟩ (rh_set Mm 0 0 0) (by rw [rh_set_j (by decide)]; exact hN) e2 (fun w w0 w1' => by
      obtain ⟨y1, y2, y3⟩ := w3 w w0 w1'
      rw [rh_set_a (by decide)]
      refine ⟨rfl, ⟨by omega, by omega⟩, fun t s t0 t1 s0 s1 => ?_⟩
      rw [rh_set_a (by decide), rh_set_a (by decide)])
    obtain ⟨ec, ea⟩ := LA.u LB (by omega) (by omega)
    refine rh2.l (rX1_near_19 hh _ _ _ ?_)
    refine ⟨fun _ => ?_, fun z => absurd (show (1 : Int) ≠ 0 by decide) z⟩
    refine rh2.sl (vX1_near_27 hh KA (LE0 rfl)) ?_
    refine rh2.l (rX1_near_30 hh _ _ ?_)
    refine rh1.of (rX32_near_0 hm _ _ ?_)
    rw [e2]
    refine ⟨fun z => absurd z c, fun _ => ⟨fun z => absurd z q, fun _ => KB _ ⟨ec, Rtp.use (Mh := Mh) (Mm := Mm) ?_ (rh_set_s _ _ _ _), ⟨?_, ?_, fun i i0 i1 => ?_⟩, ?_, ?_⟩⟩⟩
    · rw [fA2 1 2 (by unfold Fnr; omega)]; exact a12
    · rw [rh_set_j (by decide), nA, nB]; exact ec
    · rw [rh_set_j (by decide), nB]; exact ⟨by omega, by omega⟩
    · rw [rh_set_j (by decide), nB] at i1
      rw [rh_set_a (by decide)]
      exact ea i i0 (by omega)
    · exact (fA.w (fun c j h => h.elim .inl (fun h => h.elim (fun h => .inr (.inl h)) (fun h => .inr (.inr (.inl h)))))).tr (fA2.w (fun c j h => .inr (.inr (.inr h))))
    · exact ((frx.rf.st (.inl (by omega))).tr (fB2.w (fun c j h => .inr h))).st (.inl (by omega))
end NearO
