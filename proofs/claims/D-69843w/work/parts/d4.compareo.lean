/-! ===== LAYER 2: compare: the changes, the confusions ===== -/
section CompareO
variable {wh wm : rhW}
theorem ixw {w a b a' b' : Int} (hb : 0 ≤ b ∧ b < w) (hb' : 0 ≤ b' ∧ b' < w) (h : w * a + b = w * a' + b') : a = a' ∧ b = b' := by
  rcases Int.lt_trichotomy a a' with l | l | l
  · have := Int.mul_le_mul_of_nonneg_left (show a + 1 ≤ a' by omega) (show 0 ≤ w by omega)
    rw [Int.mul_add, Int.mul_one] at this
    omega
  · rw [l] at h
    exact ⟨l, by omega⟩
  · have := Int.mul_le_mul_of_nonneg_left (show a' + 1 ≤ a by omega) (show 0 ≤ w by omega)
    rw [Int.mul_add, Int.mul_one] at this
    omega
theorem wbd {w a : Int} (hw : 0 ≤ w ∧ w ≤ 401) (ha : 0 ≤ a ∧ a ≤ 400) : 0 ≤ w * a ∧ w * a ≤ 160400 := by
  refine ⟨Int.mul_nonneg hw.1 ha.1, ?_⟩
  have := Int.mul_le_mul hw.2 ha.2 ha.1 (by decide : (0 : Int) ≤ 401)
  omega
theorem ed_eq {a l u : Int} : rh_if (1 + rh_if (l < u) l u < a) (1 + rh_if (l < u) l u) a = rh_if (a < rh_if (u < l) u l + 1) a (rh_if (u < l) u l + 1) := by
  have e : rh_if (l < u) l u = rh_if (u < l) u l := by
    by_cases q : l < u
    · rw [rh_if_t q, rh_if_f (by omega)]
    · rw [rh_if_f q]
      by_cases q2 : u < l
      · rw [rh_if_t q2]
      · rw [rh_if_f q2]; omega
  rw [e]
  by_cases q : 1 + rh_if (u < l) u l < a
  · rw [rh_if_t q, rh_if_f (show ¬ a < rh_if (u < l) u l + 1 by omega)]; omega
  · rw [rh_if_f q]
    by_cases q2 : a < rh_if (u < l) u l + 1
    · rw [rh_if_t q2]
    · rw [rh_if_f q2]; omega
theorem ed_b {a l u n : Int} (ha : 0 ≤ a ∧ a ≤ n) (hl : 0 ≤ l ∧ l ≤ 1000) (hu : 0 ≤ u ∧ u ≤ 1000) : (0 ≤ rh_if (u < l) u l ∧ rh_if (u < l) u l ≤ 1000) ∧ 0 ≤ rh_if (a < rh_if (u < l) u l + 1) a (rh_if (u < l) u l + 1) ∧ rh_if (a < rh_if (u < l) u l + 1) a (rh_if (u < l) u l + 1) ≤ n := by
  have e : 0 ≤ rh_if (u < l) u l ∧ rh_if (u < l) u l ≤ 1000 := by
    by_cases q : u < l
    · rw [rh_if_t q]; omega
    · rw [rh_if_f q]; omega
  refine ⟨e, ?_⟩
  by_cases q2 : a < rh_if (u < l) u l + 1
  · rw [rh_if_t q2]; omega
  · rw [rh_if_f q2]; omega
theorem mn_b {l u : Int} (hl : 0 ≤ l ∧ l ≤ 1000) (hu : 0 ≤ u ∧ u ≤ 1000) : 0 ≤ rh_if (l < u) l u ∧ rh_if (l < u) l u ≤ 1000 := by
  by_cases q : l < u
  · rw [rh_if_t q]; omega
  · rw [rh_if_f q]; omega
/-- the changes counted so far -/
def Edt (A B : rhM) (w i j : Int) : Prop := ∀ a b, 0 ≤ a → 0 ≤ b → b < w → (a < i ∨ (a = i ∧ b < j)) → A 246 (w * a + b) = B 143 (401 * a + b) ∧ (0 ≤ B 143 (401 * a + b) ∧ B 143 (401 * a + b) ≤ a + b) ∧ (b = 0 → B 143 (401 * a + b) = a)
theorem Edt.st {A B : rhM} {w i j v : Int} (E : Edt A B w i j) (hw : w ≤ 401) (hj : 0 ≤ j ∧ j < w) (hv : 0 ≤ v ∧ v ≤ i + j) (h0 : j = 0 → v = i) : Edt (rh_set A 246 (w * i + j) v) (rh_set B 143 (401 * i + j) v) w i (j + 1) := by
  intro a b a0 b0 b1 h
  by_cases e : a = i ∧ b = j
  · rw [e.1, e.2, rh_set_s, rh_set_s]
    exact ⟨rfl, hv, h0⟩
  · rw [rh_set_j (fun z => e (ixw ⟨b0, b1⟩ hj z)), rh_set_j (by omega)]
    exact E a b a0 b0 b1 (by omega)
theorem t_edRow (hh : rh_hs wh) (hm : rh_ms wm) {kn on i : Int} (hk : 0 ≤ kn ∧ kn ≤ 400) (ho : 0 ≤ on ∧ on ≤ 400) (hi : 0 ≤ i ∧ i ≤ kn) : ∀ (u : Nat) (j : Int) (A B : rhM), j + u = on + 1 → 0 ≤ j → Knw A B → Own A B → B 0 179 = kn → B 0 181 = on → Edt A B (on + 1) i j → ∃ A' B', eS wh YX1_edits 1 19 [(0, 2, 0), (1, 0, on + 1), (2, 0, i), (3, 0, j)] [] A 19 [(0, 2, 0), (1, 0, on + 1), (2, 0, i), (3, 0, on + 1)] [] A' ∧ eS wm YX32_compare 3 67 [(0, 2, 0), (3, 0, i), (4, 0, j)] [] B 67 [(0, 2, 0), (3, 0, i), (4, 0, on + 1)] [] B' ∧ Edt A' B' (on + 1) i (on + 1) ∧ frx (fun c _ => c = 246) A A' ∧ frx (fun c _ => c = 143) B B' := by
  obtain ⟨w, hw⟩ : ∃ w, w = on + 1 := ⟨_, rfl⟩
  rw [← hw]
  intro u
  induction u with
  | zero =>
    intro j A B hj j0 K O ek eo E
    have e : j = w := by omega
    subst e
    exact ⟨A, B, eS.rf, eS.rf, E, frx.rf, frx.rf⟩
  | succ u ih =>
    intro j A B hj j0 K O ek eo E
    have Kk := K
    have Oo := O
    obtain ⟨k1, k2, k3⟩ := K
    obtain ⟨o1, o2, o3⟩ := O
    rw [ek] at k1 k3
    rw [eo] at o1 o3
    have wi := wbd (w := w) (a := i) ⟨by omega, by omega⟩ ⟨by omega, by omega⟩
    have nxt : ∀ v, (0 ≤ v ∧ v ≤ i + j) → (j = 0 → v = i) → ∃ A' B', eS wh YX1_edits 1 19 [(0, 2, 0), (1, 0, w), (2, 0, i), (3, 0, j + 1)] [] (rh_set A 246 (w * i + j) v) 19 [(0, 2, 0), (1, 0, w), (2, 0, i), (3, 0, w)] [] A' ∧ eS wm YX32_compare 3 67 [(0, 2, 0), (3, 0, i), (4, 0, j + 1)] [] (rh_set B 143 (401 * i + j) v) 67 [(0, 2, 0), (3, 0, i), (4, 0, w)] [] B' ∧ Edt A' B' w i w ∧ frx (fun c _ => c = 246) A A' ∧ frx (fun c _ => c = 143) B B' := fun v hv h0 => by
      have fA : frx (fun c _ => c = 246) A (rh_set A 246 (w * i + j) v) := frx.rf.st rfl
      have fB : frx (fun c _ => c = 143) B (rh_set B 143 (401 * i + j) v) := frx.rf.st rfl
      have K' : Knw (rh_set A 246 (w * i + j) v) (rh_set B 143 (401 * i + j) v) := by
        unfold Knw
        rw [rh_set_a (by decide), rh_set_a (by decide)]
        refine ⟨Kk.1, Kk.2.1, fun t t0 t1 => ?_⟩
        rw [rh_set_a (by decide), rh_set_a (by decide)]
        exact Kk.2.2 t t0 t1
      have O' : Own (rh_set A 246 (w * i + j) v) (rh_set B 143 (401 * i + j) v) := by
        unfold Own
        rw [rh_set_a (by decide), rh_set_a (by decide)]
        refine ⟨Oo.1, Oo.2.1, fun t t0 t1 => ?_⟩
        rw [rh_set_a (by decide), rh_set_a (by decide)]
        exact Oo.2.2 t t0 t1
      obtain ⟨A', B', E1, E2, E3, f1, f2⟩ := ih (j + 1) (rh_set A 246 (w * i + j) v) (rh_set B 143 (401 * i + j) v) (by omega) (by omega) K' O' (by rw [rh_set_a (by decide)]; exact ek) (by rw [rh_set_a (by decide)]; exact eo) (E.st (by omega) ⟨by omega, by omega⟩ hv h0)
      exact ⟨A', B', E1, E2, E3, fA.tr f1, fB.tr f2⟩
    by_cases q : 0 < i ∧ 0 < j
    · have m1 : w * (i - 1) = w * i - w := by rw [Int.mul_sub, Int.mul_one]
      have wi1 := wbd (w := w) (a := i - 1) ⟨by omega, by omega⟩ ⟨by omega, by omega⟩
      obtain ⟨d1, d2, -⟩ := E (i - 1) (j - 1) (by omega) (by omega) (by omega) (.inl (by omega))
      obtain ⟨u1, u2, -⟩ := E (i - 1) j (by omega) (by omega) (by omega) (.inl (by omega))
      obtain ⟨l1, l2, -⟩ := E i (j - 1) (by omega) (by omega) (by omega) (.inr ⟨rfl, (by omega)⟩)
      have x1 := (k3 (i - 1) (by omega) (by omega)).1
      have x2 := (o3 (j - 1) (by omega) (by omega)).1
      rw [show w * (i - 1) + (j - 1) = w * (i - 1) + j - 1 by omega, show 401 * (i - 1) + (j - 1) = 401 * (i - 1) + j - 1 by omega] at d1
      rw [show 401 * (i - 1) + (j - 1) = 401 * (i - 1) + j - 1 by omega] at d2
      rw [show w * i + (j - 1) = w * i + j - 1 by omega, show 401 * i + (j - 1) = 401 * i + j - 1 by omega] at l1
      rw [show 401 * i + (j - 1) = 401 * i + j - 1 by omega] at l2
      obtain ⟨a, ha⟩ : ∃ a, a = B 143 (401 * (i - 1) + j - 1) + rh_if (B 141 (i - 1) ≠ B 142 (j - 1)) (1 : Int) 0 := ⟨_, rfl⟩
      have ab : 0 ≤ a ∧ a ≤ i + j := by
        rw [ha]
        by_cases z : B 141 (i - 1) ≠ B 142 (j - 1)
        · rw [rh_if_t z]; omega
        · rw [rh_if_f z]; omega
      obtain ⟨mb, vb⟩ := ed_b (l := B 143 (401 * i + j - 1)) (u := B 143 (401 * (i - 1) + j)) ab ⟨by omega, by omega⟩ ⟨by omega, by omega⟩
      have mb2 := mn_b (l := B 143 (401 * i + j - 1)) (u := B 143 (401 * (i - 1) + j)) ⟨by omega, by omega⟩ ⟨by omega, by omega⟩
      obtain ⟨v, hv⟩ : ∃ v, v = rh_if (a < rh_if (B 143 (401 * (i - 1) + j) < B 143 (401 * i + j - 1)) (B 143 (401 * (i - 1) + j)) (B 143 (401 * i + j - 1)) + 1) a (rh_if (B 143 (401 * (i - 1) + j) < B 143 (401 * i + j - 1)) (B 143 (401 * (i - 1) + j)) (B 143 (401 * i + j - 1)) + 1) := ⟨_, rfl⟩
      rw [← hv] at vb
      obtain ⟨A', B', E1, E2, E3⟩ := nxt v vb (fun z => by omega)
      refine ⟨A', B', eS.of (fun P HP => ?_), eS.of (fun P HP => ?_), E3⟩
      · refine rh1.of (rX1_edits_19 hh _ _ _ _ ?_)
        rw [o1, d1, u1, l1, x1, x2]
        refine ⟨fun _ => ?_, fun z => by omega⟩
        intro y hy
        refine ⟨fun _ => ⟨⟨by omega, by omega⟩, ⟨by omega, by omega⟩, ⟨by omega, by omega⟩, ?_⟩, fun z => absurd q z⟩
        rw [← ha]
        rintro _ rfl
        refine ⟨⟨by omega, by omega⟩, ⟨by omega, by omega⟩, ⟨by omega, by omega⟩, ⟨by omega, by omega⟩, ?_⟩
        rw [ed_eq, ← hv]
        rintro _ rfl
        exact ⟨⟨by omega, by omega⟩, ⟨by omega, by omega⟩, rh1.s E1 HP⟩
      · refine rh1.of (rX32_compare_67 hm _ _ _ ?_)
        rw [eo]
        refine ⟨fun _ => ?_, fun z => by omega⟩
        intro y hy
        refine ⟨fun _ => ⟨⟨by omega, by omega⟩, ⟨by omega, by omega⟩, ⟨by omega, by omega⟩, ?_⟩, fun z => absurd q z⟩
        rw [← ha]
        rintro _ rfl
        refine ⟨⟨by omega, by omega⟩, ⟨by omega, by omega⟩, ⟨by omega, by omega⟩, ⟨by omega, by omega⟩, ?_⟩
        rw [← hv]
        rintro _ rfl
        exact ⟨⟨by omega, by omega⟩, ⟨by omega, by omega⟩, rh1.s E2 HP⟩
    · obtain ⟨v, hv⟩ : ∃ v, v = rh_if (i = 0) j i := ⟨_, rfl⟩
      have vb : (0 ≤ v ∧ v ≤ i + j) ∧ (j = 0 → v = i) := by
        rw [hv]
        by_cases z : i = 0
        · rw [rh_if_t z]; omega
        · rw [rh_if_f z]; omega
      obtain ⟨A', B', E1, E2, E3⟩ := nxt v vb.1 vb.2
      refine ⟨A', B', eS.of (fun P HP => ?_), eS.of (fun P HP => ?_), E3⟩
      · refine rh1.of (rX1_edits_19 hh _ _ _ _ ?_)
        rw [o1]
        refine ⟨fun _ => ?_, fun z => by omega⟩
        rw [← hv]
        rintro _ rfl
        exact ⟨fun z => absurd z q, fun _ => ⟨⟨by omega, by omega⟩, ⟨by omega, by omega⟩, rh1.s E1 HP⟩⟩
      · refine rh1.of (rX32_compare_67 hm _ _ _ ?_)
        rw [eo]
        refine ⟨fun _ => ?_, fun z => by omega⟩
        rw [← hv]
        rintro _ rfl
        exact ⟨fun z => absurd z q, fun _ => ⟨⟨by omega, by omega⟩, ⟨by omega, by omega⟩, rh1.s E2 HP⟩⟩
theorem Knw.fx {A B A' B' : rhM} (K : Knw A B) (f : frx (fun c _ => c = 246) A A') (g : frx (fun c _ => c = 143) B B') : Knw A' B' := by
  unfold Knw
  rw [f 0 32 (by decide), g 0 179 (by decide)]
  refine ⟨K.1, K.2.1, fun t t0 t1 => ?_⟩
  rw [f 244 t (show ¬ (244 : Int) = 246 by decide), g 141 t (show ¬ (141 : Int) = 143 by decide)]
  exact K.2.2 t t0 t1
theorem Own.fx {A B A' B' : rhM} (K : Own A B) (f : frx (fun c _ => c = 246) A A') (g : frx (fun c _ => c = 143) B B') : Own A' B' := by
  unfold Own
  rw [f 0 34 (by decide), g 0 181 (by decide)]
  refine ⟨K.1, K.2.1, fun t t0 t1 => ?_⟩
  rw [f 245 t (show ¬ (245 : Int) = 246 by decide), g 142 t (show ¬ (142 : Int) = 143 by decide)]
  exact K.2.2 t t0 t1
theorem t_edits (hh : rh_hs wh) (hm : rh_ms wm) {kn on : Int} (hk : 0 ≤ kn ∧ kn ≤ 400) (ho : 0 ≤ on ∧ on ≤ 400) : ∀ (u : Nat) (i : Int) (A B : rhM), i + u = kn + 1 → 0 ≤ i → Knw A B → Own A B → B 0 179 = kn → B 0 181 = on → Edt A B (on + 1) i 0 → ∃ A' B', eS wh YX1_edits 1 9 [(0, 2, 0), (1, 0, on + 1), (2, 0, i)] [] A 9 [(0, 2, 0), (1, 0, on + 1), (2, 0, kn + 1)] [] A' ∧ eS wm YX32_compare 3 56 [(0, 2, 0), (3, 0, i)] [] B 56 [(0, 2, 0), (3, 0, kn + 1)] [] B' ∧ Edt A' B' (on + 1) (kn + 1) 0 ∧ frx (fun c _ => c = 246) A A' ∧ frx (fun c _ => c = 143) B B' := by
  intro u
  induction u with
  | zero =>
    intro i A B hi i0 K O ek eo E
    have e : i = kn + 1 := by omega
    subst e
    exact ⟨A, B, eS.rf, eS.rf, E, frx.rf, frx.rf⟩
  | succ u ih =>
    intro i A B hi i0 K O ek eo E
    obtain ⟨A1, B1, E1, E2, E3, f1, g1⟩ := t_edRow hh hm hk ho (i := i) ⟨by omega, by omega⟩ (on + 1).toNat 0 A B (by omega) (by decide) K O ek eo E
    have ek1 : B1 0 179 = kn := by rw [g1 0 179 (by decide)]; exact ek
    have eo1 : B1 0 181 = on := by rw [g1 0 181 (by decide)]; exact eo
    have K1 := K.fx f1 g1
    have O1 := O.fx f1 g1
    obtain ⟨A2, B2, F1, F2, F3, f2, g2⟩ := ih (i + 1) A1 B1 (by omega) (by omega) K1 O1 ek1 eo1 (fun a b a0 b0 b1 h => E3 a b a0 b0 b1 (by omega))
    refine ⟨A2, B2, eS.of (fun P HP => ?_), eS.of (fun P HP => ?_), F3, f1.tr f2, g1.tr g2⟩
    · refine rh1.of (rX1_edits_9 hh _ _ _ ?_)
      rw [K.1, ek]
      refine ⟨fun _ => rh1.s E1 ?_, fun z => by omega⟩
      refine rh1.of (rX1_edits_19 hh _ _ _ _ ?_)
      rw [O1.1, eo1]
      exact ⟨fun z => by omega, fun _ => ⟨⟨by omega, by omega⟩, rh1.s F1 HP⟩⟩
    · refine rh1.of (rX32_compare_56 hm _ _ ?_)
      rw [ek]
      refine ⟨fun _ => rh1.s E2 ?_, fun z => by omega⟩
      refine rh1.of (rX32_compare_67 hm _ _ _ ?_)
      rw [eo1]
      exact ⟨fun z => by omega, fun _ => ⟨⟨by omega, by omega⟩, rh1.s F2 HP⟩⟩
theorem spH {x : Int} (h : 32 ≤ x ∧ x ≤ 126) : rh_if (x = 0) (0 : Int) (rh_if (x = 32) (1 : Int) ((x - 33) + 2)) = x - 31 := by
  rw [rh_if_f (show ¬ x = 0 by omega)]
  by_cases q : x = 32
  · rw [rh_if_t q]; omega
  · rw [rh_if_f q]; omega
theorem spM {x : Int} (h : 32 ≤ x ∧ x ≤ 126) : rh_if (x = 0) (0 : Int) (x - 31) = x - 31 := rh_if_f (by omega)
def Cnf (A B : rhM) (L : Int) : Prop := ∀ q, 0 ≤ q → q < 9216 → A 247 q = B 144 q ∧ 0 ≤ B 144 q ∧ B 144 q ≤ L
theorem Cnf.st {A B : rhM} {L x : Int} (h : Cnf A B L) (hx : 0 ≤ x ∧ x < 9216) : Cnf (rh_set A 247 x (B 144 x + 1)) (rh_set B 144 x (B 144 x + 1)) (L + 1) := by
  intro q q0 q1
  by_cases e : q = x
  · have := h x hx.1 hx.2
    rw [e, rh_set_s, rh_set_s]
    omega
  · have := h q q0 q1
    rw [rh_set_j e, rh_set_j e]
    omega
theorem Cnf.w {A B : rhM} {L L' : Int} (h : Cnf A B L) (hl : L ≤ L') : Cnf A B L' := fun q q0 q1 => by
  have := h q q0 q1
  omega
/-- what the walk back sees: texts and changes -/
def Wkb (A B : rhM) (kn on : Int) : Prop := (∀ t, 0 ≤ t → t < kn → A 244 t = B 141 t ∧ 32 ≤ B 141 t ∧ B 141 t ≤ 126) ∧ (∀ t, 0 ≤ t → t < on → A 245 t = B 142 t ∧ 32 ≤ B 142 t ∧ B 142 t ≤ 126) ∧ Edt A B (on + 1) (kn + 1) 0
theorem Wkb.st {A B : rhM} {kn on x y v u : Int} (W : Wkb A B kn on) : Wkb (rh_set A 247 x v) (rh_set B 144 y u) kn on := by
  obtain ⟨w1, w2, w3⟩ := W
  refine ⟨fun t t0 t1 => ?_, fun t t0 t1 => ?_, fun a b a0 b0 b1 h => ?_⟩
  · rw [rh_set_a (by decide), rh_set_a (by decide)]; exact w1 t t0 t1
  · rw [rh_set_a (by decide), rh_set_a (by decide)]; exact w2 t t0 t1
  · rw [rh_set_a (by decide), rh_set_a (by decide)]; exact w3 a b a0 b0 b1 h
theorem t_conf (hh : rh_hs wh) (hm : rh_ms wm) {kn on : Int} (hk : 0 ≤ kn ∧ kn ≤ 400) (ho : 0 ≤ on ∧ on ≤ 400) : ∀ (u : Nat) (i j L : Int) (A B : rhM), (i + j ≤ u) → (0 ≤ i ∧ i ≤ kn) → (0 ≤ j ∧ j ≤ on) → Wkb A B kn on → Cnf A B L → (0 ≤ L ∧ L + u ≤ 2000000) → ∃ A' B', (∀ P : Int → rhM → Prop, P 0 A' → rh1 wh YX1_confuse 1 17 [(0, 2, 0), (1, 0, on + 1), (2, 0, i), (3, 0, j)] [] A P) ∧ (∀ P : Int → rhM → Prop, P 0 B' → rh1 wm YX32_countConfusions 1 10 [(0, 2, 0), (1, 0, i), (2, 0, j)] [] B P) ∧ Cnf A' B' (L + u) ∧ frx (fun c _ => c = 247) A A' ∧ frx (fun c _ => c = 144) B B' := by
  obtain ⟨w, hw⟩ : ∃ w, w = on + 1 := ⟨_, rfl⟩
  intro u
  induction u with
  | zero =>
    intro i j L A B hu hi hj W C hL
    refine ⟨A, B, fun P HP => ?_, fun P HP => ?_, C.w (by omega), frx.rf, frx.rf⟩
    · refine rh1.of (rX1_confuse_17 hh _ _ _ _ ?_)
      exact ⟨fun z => by omega, fun _ => HP⟩
    · refine rh1.of (rX32_countConfusions_10 hm _ _ _ ?_)
      exact ⟨fun z => by omega, fun _ => HP⟩
  | succ u ih =>
    intro i j L A B hu hi hj W C hL
    by_cases nz : 0 < i ∨ 0 < j
    case neg =>
      refine ⟨A, B, fun P HP => ?_, fun P HP => ?_, C.w (by omega), frx.rf, frx.rf⟩
      · refine rh1.of (rX1_confuse_17 hh _ _ _ _ ?_)
        exact ⟨fun z => absurd z nz, fun _ => HP⟩
      · refine rh1.of (rX32_countConfusions_10 hm _ _ _ ?_)
        exact ⟨fun z => absurd z nz, fun _ => HP⟩
    have WW := W
    obtain ⟨w1, w2, w3⟩ := W
    have wi := wbd (w := on + 1) (a := i) ⟨by omega, by omega⟩ ⟨by omega, by omega⟩
    have m1 : (on + 1) * (i - 1) = (on + 1) * i - (on + 1) := by rw [Int.mul_sub, Int.mul_one]
    have wj : 0 < i → 0 ≤ (on + 1) * (i - 1) := fun a => Int.mul_nonneg (by omega) (by omega)
    have D0 := w3 i j (by omega) (by omega) (by omega) (.inl (by omega))
    have D1 : 0 < i → 0 < j → A 246 ((on + 1) * (i - 1) + j - 1) = B 143 (401 * (i - 1) + j - 1) ∧ (0 ≤ B 143 (401 * (i - 1) + j - 1) ∧ B 143 (401 * (i - 1) + j - 1) ≤ 1000) := fun a b => by
      obtain ⟨z1, z2, -⟩ := w3 (i - 1) (j - 1) (by omega) (by omega) (by omega) (.inl (by omega))
      rw [show (on + 1) * (i - 1) + (j - 1) = (on + 1) * (i - 1) + j - 1 by omega, show 401 * (i - 1) + (j - 1) = 401 * (i - 1) + j - 1 by omega] at z1
      rw [show 401 * (i - 1) + (j - 1) = 401 * (i - 1) + j - 1 by omega] at z2
      exact ⟨z1, ⟨by omega, by omega⟩⟩
    have D2 : 0 < i → A 246 ((on + 1) * (i - 1) + j) = B 143 (401 * (i - 1) + j) ∧ (0 ≤ B 143 (401 * (i - 1) + j) ∧ B 143 (401 * (i - 1) + j) ≤ 1000) ∧ (j = 0 → B 143 (401 * i + j) = B 143 (401 * (i - 1) + j) + 1) := fun a => by
      obtain ⟨z1, z2, z3⟩ := w3 (i - 1) j (by omega) (by omega) (by omega) (.inl (by omega))
      refine ⟨z1, ⟨by omega, by omega⟩, fun e => ?_⟩
      have := D0.2.2 e
      have := z3 e
      omega
    have Ti : 0 < i → A 244 (i - 1) = B 141 (i - 1) ∧ 32 ≤ B 141 (i - 1) ∧ B 141 (i - 1) ≤ 126 := fun a => w1 (i - 1) (by omega) (by omega)
    have Tj : 0 < j → A 245 (j - 1) = B 142 (j - 1) ∧ 32 ≤ B 142 (j - 1) ∧ B 142 (j - 1) ≤ 126 := fun a => w2 (j - 1) (by omega) (by omega)
    have hA : ∀ P : Int → rhM → Prop, ((0 < i ∧ (0 < j ∧ B 141 (i - 1) = B 142 (j - 1)) → rh1 wh YX1_confuse 1 17 [(0, 2, 0), (1, 0, on + 1), (2, 0, i + (-1)), (3, 0, j + (-1))] [] A P) ∧ (¬ (0 < i ∧ (0 < j ∧ B 141 (i - 1) = B 142 (j - 1))) → (0 < i ∧ (0 < j ∧ B 143 (401 * i + j) = B 143 (401 * (i - 1) + j - 1) + 1) → rh1 wh YX1_confuse 1 17 [(0, 2, 0), (1, 0, on + 1), (2, 0, i + (-1)), (3, 0, j + (-1))] [] (rh_set A 247 (96 * (B 141 (i - 1) - 31) + (B 142 (j - 1) - 31)) (B 144 (96 * (B 141 (i - 1) - 31) + (B 142 (j - 1) - 31)) + 1)) P) ∧ (¬ (0 < i ∧ (0 < j ∧ B 143 (401 * i + j) = B 143 (401 * (i - 1) + j - 1) + 1)) → (0 < i ∧ B 143 (401 * i + j) = B 143 (401 * (i - 1) + j) + 1 → rh1 wh YX1_confuse 1 17 [(0, 2, 0), (1, 0, on + 1), (2, 0, i + (-1)), (3, 0, j)] [] (rh_set A 247 (96 * (B 141 (i - 1) - 31)) (B 144 (96 * (B 141 (i - 1) - 31)) + 1)) P) ∧ (¬ (0 < i ∧ B 143 (401 * i + j) = B 143 (401 * (i - 1) + j) + 1) → rh1 wh YX1_confuse 1 17 [(0, 2, 0), (1, 0, on + 1), (2, 0, i), (3, 0, j + (-1))] [] (rh_set A 247 (B 142 (j - 1) - 31) (B 144 (B 142 (j - 1) - 31) + 1)) P)))) → rh1 wh YX1_confuse 1 17 [(0, 2, 0), (1, 0, on + 1), (2, 0, i), (3, 0, j)] [] A P := by
      intro P ⟨H1, H2⟩
      refine rh1.of (rX1_confuse_17 hh _ _ _ _ ?_)
      rw [D0.1]
      refine ⟨fun _ => ⟨⟨by omega, by omega⟩, ?_⟩, fun z => absurd nz z⟩
      rintro _ rfl
      refine ⟨fun _ => ⟨by omega, by omega⟩, ?_⟩
      intro y1 hy1
      refine ⟨fun _ => ⟨by omega, by omega⟩, ?_⟩
      intro y2 hy2
      have e1 : 0 < i → y1 = B 141 (i - 1) := fun a => by rw [hy1, rh_if_t a]; exact (Ti a).1
      have e2 : 0 < j → y2 = B 142 (j - 1) := fun a => by rw [hy2, rh_if_t a]; exact (Tj a).1
      refine ⟨fun c => ⟨⟨by omega, by omega⟩, ⟨by omega, by omega⟩, H1 ⟨c.1, c.2.1, by rw [← e1 c.1, ← e2 c.2.1]; exact c.2.2⟩⟩, fun c => ⟨fun a b => by have := wj a; exact ⟨by omega, by omega⟩, fun a b => by rw [(D1 a b).1]; have := (D1 a b).2; exact ⟨by omega, by omega⟩, fun c2 => ?_, fun c2 => ⟨fun a => by have := wj a; exact ⟨by omega, by omega⟩, fun a => by rw [(D2 a).1]; have := (D2 a).2.1; exact ⟨by omega, by omega⟩, fun c3 => ?_, fun c3 => ?_⟩⟩⟩
      · have t1 := Ti c2.1
        have t2 := Tj c2.2.1
        have G := H2 (fun k => c ⟨k.1, k.2.1, by rw [e1 k.1, e2 k.2.1]; exact k.2.2⟩)
        rw [(D1 c2.1 c2.2.1).1] at c2
        rw [e1 c2.1, e2 c2.2.1, spH t1.2, spH t2.2, (C _ (show 0 ≤ 96 * (B 141 (i - 1) - 31) + (B 142 (j - 1) - 31) by omega) (by omega)).1]
        have cb := C _ (show 0 ≤ 96 * (B 141 (i - 1) - 31) + (B 142 (j - 1) - 31) by omega) (by omega)
        refine ⟨⟨by omega, by omega⟩, ⟨by omega, by omega⟩, ⟨by omega, by omega⟩, ?_⟩
        rintro _ rfl
        exact ⟨⟨by omega, by omega⟩, ⟨by omega, by omega⟩, ⟨by omega, by omega⟩, ⟨by omega, by omega⟩, G.1 c2⟩
      · have t1 := Ti c3.1
        have c2' : ¬ (0 < i ∧ (0 < j ∧ B 143 (401 * i + j) = B 143 (401 * (i - 1) + j - 1) + 1)) := fun k => c2 ⟨k.1, k.2.1, by rw [(D1 k.1 k.2.1).1]; exact k.2.2⟩
        have G := (H2 (fun k => c ⟨k.1, k.2.1, by rw [e1 k.1, e2 k.2.1]; exact k.2.2⟩)).2 c2'
        rw [(D2 c3.1).1] at c3
        rw [e1 c3.1, spH t1.2, (C _ (show 0 ≤ 96 * (B 141 (i - 1) - 31) by omega) (by omega)).1]
        have cb := C _ (show 0 ≤ 96 * (B 141 (i - 1) - 31) by omega) (by omega)
        refine ⟨⟨by omega, by omega⟩, ⟨by omega, by omega⟩, ?_⟩
        rintro _ rfl
        exact ⟨⟨by omega, by omega⟩, ⟨by omega, by omega⟩, ⟨by omega, by omega⟩, G.1 c3⟩
      · have c2' : ¬ (0 < i ∧ (0 < j ∧ B 143 (401 * i + j) = B 143 (401 * (i - 1) + j - 1) + 1)) := fun k => c2 ⟨k.1, k.2.1, by rw [(D1 k.1 k.2.1).1]; exact k.2.2⟩
        have c3' : ¬ (0 < i ∧ B 143 (401 * i + j) = B 143 (401 * (i - 1) + j) + 1) := fun k => c3 ⟨k.1, by rw [(D2 k.1).1]; exact k.2⟩
        have j1 : 0 < j := by
          rcases Int.lt_or_le 0 j with l | l
          · exact l
          · have i1 : 0 < i := by omega
            exact absurd ⟨i1, (D2 i1).2.2 (by omega)⟩ c3'
        have t2 := Tj j1
        have G := ((H2 (fun k => c ⟨k.1, k.2.1, by rw [e1 k.1, e2 k.2.1]; exact k.2.2⟩)).2 c2').2 c3'
        rw [e2 j1, spH t2.2, (C _ (show 0 ≤ B 142 (j - 1) - 31 by omega) (by omega)).1]
        have cb := C _ (show 0 ≤ B 142 (j - 1) - 31 by omega) (by omega)
        refine ⟨⟨by omega, by omega⟩, ⟨by omega, by omega⟩, ?_⟩
        rintro _ rfl
        exact ⟨⟨by omega, by omega⟩, ⟨by omega, by omega⟩, ⟨by omega, by omega⟩, G⟩
    have hB : ∀ P : Int → rhM → Prop, ((0 < i ∧ (0 < j ∧ B 141 (i - 1) = B 142 (j - 1)) → rh1 wm YX32_countConfusions 1 10 [(0, 2, 0), (1, 0, i + (-1)), (2, 0, j + (-1))] [] B P) ∧ (¬ (0 < i ∧ (0 < j ∧ B 141 (i - 1) = B 142 (j - 1))) → (0 < i ∧ (0 < j ∧ B 143 (401 * i + j) = B 143 (401 * (i - 1) + j - 1) + 1) → rh1 wm YX32_countConfusions 1 10 [(0, 2, 0), (1, 0, i + (-1)), (2, 0, j + (-1))] [] (rh_set B 144 (96 * (B 141 (i - 1) - 31) + (B 142 (j - 1) - 31)) (B 144 (96 * (B 141 (i - 1) - 31) + (B 142 (j - 1) - 31)) + 1)) P) ∧ (¬ (0 < i ∧ (0 < j ∧ B 143 (401 * i + j) = B 143 (401 * (i - 1) + j - 1) + 1)) → (0 < i ∧ B 143 (401 * i + j) = B 143 (401 * (i - 1) + j) + 1 → rh1 wm YX32_countConfusions 1 10 [(0, 2, 0), (1, 0, i + (-1)), (2, 0, j)] [] (rh_set B 144 (96 * (B 141 (i - 1) - 31)) (B 144 (96 * (B 141 (i - 1) - 31)) + 1)) P) ∧ (¬ (0 < i ∧ B 143 (401 * i + j) = B 143 (401 * (i - 1) + j) + 1) → rh1 wm YX32_countConfusions 1 10 [(0, 2, 0), (1, 0, i), (2, 0, j + (-1))] [] (rh_set B 144 (B 142 (j - 1) - 31) (B 144 (B 142 (j - 1) - 31) + 1)) P)))) → rh1 wm YX32_countConfusions 1 10 [(0, 2, 0), (1, 0, i), (2, 0, j)] [] B P := by
      intro P ⟨H1, H2⟩
      refine rh1.of (rX32_countConfusions_10 hm _ _ _ ?_)
      refine ⟨fun _ => ⟨⟨by omega, by omega⟩, ?_⟩, fun z => absurd nz z⟩
      rintro _ rfl
      refine ⟨fun _ _ => ⟨by omega, by omega⟩, fun _ _ => ⟨by omega, by omega⟩, fun c => ⟨⟨by omega, by omega⟩, ⟨by omega, by omega⟩, H1 c⟩, fun c => ⟨fun a b => ⟨by omega, by omega⟩, fun a b => by have := (D1 a b).2; exact ⟨by omega, by omega⟩, fun c2 => ?_, fun c2 => ⟨fun a => ⟨by omega, by omega⟩, fun a => by have := (D2 a).2.1; exact ⟨by omega, by omega⟩, fun c3 => ?_, fun c3 => ?_⟩⟩⟩
      · have t1 := Ti c2.1
        have t2 := Tj c2.2.1
        have cb := C _ (show 0 ≤ 96 * (B 141 (i - 1) - 31) + (B 142 (j - 1) - 31) by omega) (by omega)
        have G := (H2 c).1 c2
        rw [show i + (-1) = i - 1 by omega, show j + (-1) = j - 1 by omega, spM t1.2, spM t2.2]
        rw [show i + (-1) = i - 1 by omega, show j + (-1) = j - 1 by omega] at G
        refine ⟨⟨by omega, by omega⟩, ⟨by omega, by omega⟩, ⟨by omega, by omega⟩, ⟨by omega, by omega⟩, ⟨by omega, by omega⟩, ⟨by omega, by omega⟩, ⟨by omega, by omega⟩, ?_⟩
        rintro _ rfl
        exact ⟨⟨by omega, by omega⟩, ⟨by omega, by omega⟩, G⟩
      · have t1 := Ti c3.1
        have cb := C _ (show 0 ≤ 96 * (B 141 (i - 1) - 31) by omega) (by omega)
        have G := ((H2 c).2 c2).1 c3
        rw [show i + (-1) = i - 1 by omega, spM t1.2]
        rw [show i + (-1) = i - 1 by omega] at G
        refine ⟨⟨by omega, by omega⟩, ⟨by omega, by omega⟩, ⟨by omega, by omega⟩, ⟨by omega, by omega⟩, ?_⟩
        rintro _ rfl
        exact ⟨⟨by omega, by omega⟩, ⟨by omega, by omega⟩, G⟩
      · have j1 : 0 < j := by
          rcases Int.lt_or_le 0 j with l | l
          · exact l
          · have i1 : 0 < i := by omega
            exact absurd ⟨i1, (D2 i1).2.2 (by omega)⟩ c3
        have t2 := Tj j1
        have cb := C _ (show 0 ≤ B 142 (j - 1) - 31 by omega) (by omega)
        have G := ((H2 c).2 c2).2 c3
        rw [show j + (-1) = j - 1 by omega, spM t2.2]
        rw [show j + (-1) = j - 1 by omega] at G
        refine ⟨⟨by omega, by omega⟩, ⟨by omega, by omega⟩, ⟨by omega, by omega⟩, ⟨by omega, by omega⟩, ?_⟩
        rintro _ rfl
        exact ⟨⟨by omega, by omega⟩, ⟨by omega, by omega⟩, G⟩
    by_cases c : 0 < i ∧ (0 < j ∧ B 141 (i - 1) = B 142 (j - 1))
    · obtain ⟨A', B', E1, E2, E3, E4⟩ := ih (i + (-1)) (j + (-1)) L A B (by omega) ⟨by omega, by omega⟩ ⟨by omega, by omega⟩ WW C ⟨by omega, by omega⟩
      exact ⟨A', B', fun P HP => hA P ⟨fun _ => E1 P HP, fun z => absurd c z⟩, fun P HP => hB P ⟨fun _ => E2 P HP, fun z => absurd c z⟩, E3.w (by omega), E4⟩
    by_cases c2 : 0 < i ∧ (0 < j ∧ B 143 (401 * i + j) = B 143 (401 * (i - 1) + j - 1) + 1)
    · have t1 := Ti c2.1
      have t2 := Tj c2.2.1
      obtain ⟨A', B', E1, E2, E3, f, g⟩ := ih (i + (-1)) (j + (-1)) (L + 1) _ _ (by omega) ⟨by omega, by omega⟩ ⟨by omega, by omega⟩ (WW.st (x := 96 * (B 141 (i - 1) - 31) + (B 142 (j - 1) - 31)) (y := 96 * (B 141 (i - 1) - 31) + (B 142 (j - 1) - 31))) (C.st (x := 96 * (B 141 (i - 1) - 31) + (B 142 (j - 1) - 31)) ⟨by omega, by omega⟩) ⟨by omega, by omega⟩
      exact ⟨A', B', fun P HP => hA P ⟨fun z => absurd z c, fun _ => ⟨fun _ => E1 P HP, fun z => absurd c2 z⟩⟩, fun P HP => hB P ⟨fun z => absurd z c, fun _ => ⟨fun _ => E2 P HP, fun z => absurd c2 z⟩⟩, E3.w (by omega), (show frx (fun c _ => c = 247) A _ from frx.rf.st rfl).tr f, (show frx (fun c _ => c = 144) B _ from frx.rf.st rfl).tr g⟩
    by_cases c3 : 0 < i ∧ B 143 (401 * i + j) = B 143 (401 * (i - 1) + j) + 1
    · have t1 := Ti c3.1
      obtain ⟨A', B', E1, E2, E3, f, g⟩ := ih (i + (-1)) j (L + 1) _ _ (by omega) ⟨by omega, by omega⟩ ⟨by omega, by omega⟩ (WW.st (x := 96 * (B 141 (i - 1) - 31)) (y := 96 * (B 141 (i - 1) - 31))) (C.st (x := 96 * (B 141 (i - 1) - 31)) ⟨by omega, by omega⟩) ⟨by omega, by omega⟩
      exact ⟨A', B', fun P HP => hA P ⟨fun z => absurd z c, fun _ => ⟨fun z => absurd z c2, fun _ => ⟨fun _ => E1 P HP, fun z => absurd c3 z⟩⟩⟩, fun P HP => hB P ⟨fun z => absurd z c, fun _ => ⟨fun z => absurd z c2, fun _ => ⟨fun _ => E2 P HP, fun z => absurd c3 z⟩⟩⟩, E3.w (by omega), (show frx (fun c _ => c = 247) A _ from frx.rf.st rfl).tr f, (show frx (fun c _ => c = 144) B _ from frx.rf.st rfl).tr g⟩
    · have j1 : 0 < j := by
        rcases Int.lt_or_le 0 j with l | l
        · exact l
        · have i1 : 0 < i := by omega
          exact absurd ⟨i1, (D2 i1).2.2 (by omega)⟩ c3
      have t2 := Tj j1
      obtain ⟨A', B', E1, E2, E3, f, g⟩ := ih i (j + (-1)) (L + 1) _ _ (by omega) ⟨by omega, by omega⟩ ⟨by omega, by omega⟩ (WW.st (x := B 142 (j - 1) - 31) (y := B 142 (j - 1) - 31)) (C.st (x := B 142 (j - 1) - 31) ⟨by omega, by omega⟩) ⟨by omega, by omega⟩
      exact ⟨A', B', fun P HP => hA P ⟨fun z => absurd z c, fun _ => ⟨fun z => absurd z c2, fun _ => ⟨fun z => absurd z c3, fun _ => E1 P HP⟩⟩⟩, fun P HP => hB P ⟨fun z => absurd z c, fun _ => ⟨fun z => absurd z c2, fun _ => ⟨fun z => absurd z c3, fun _ => E2 P HP⟩⟩⟩, E3.w (by omega), (show frx (fun c _ => c = 247) A _ from frx.rf.st rfl).tr f, (show frx (fun c _ => c = 144) B _ from frx.rf.st rfl).tr g⟩
def Fcm (c j : Int) : Prop := Ftp c j ∨ (c = 0 ∧ (j = 32 ∨ j = 34)) ∨ (c = 3 ∧ j = 6) ∨ (244 ≤ c ∧ c ≤ 247)
def Gcm (c j : Int) : Prop := (c = 0 ∧ (j = 0 ∨ j = 2 ∨ j = 177 ∨ j = 179 ∨ j = 181)) ∨ (140 ≤ c ∧ c ≤ 144)
theorem Rtp.n0 {Mh Mm : rhM} (T : Rtp Mh Mm) : Rtp Mh (rh_set Mm 0 0 0) := by
  obtain ⟨t1, t2, t3, t4⟩ := T
  unfold Rtp Rby
  rw [rh_set_j (by decide)]
  refine ⟨t1, t2, t3, fun k k0 k1 => ?_⟩
  rw [rh_set_a (by decide)]
  exact t4 k k0 k1
theorem RdA.is {Mh Mm : rhM} (R : RdA Mh Mm) (x1 : Int) : (((0 ≤ x1) ∧ (x1 ≤ (4 : Int) - 1)) ∧ (Mh (563 + 18 * x1) 0 ≠ 0)) ↔ (((0 ≤ x1) ∧ (x1 ≤ 3)) ∧ (Mm 113 x1 ≠ 0)) := by
  constructor
  · rintro ⟨h1, h2⟩
    exact ⟨⟨by omega, by omega⟩, (R x1 (by omega) (by omega)).1.mp h2⟩
  · rintro ⟨h1, h2⟩
    exact ⟨⟨by omega, by omega⟩, (R x1 (by omega) (by omega)).1.mpr h2⟩
theorem op_compare (hh : rh_hs wh) (hm : rh_ms wm) {Mh Mm : rhM} {K : Int} (T : Rtp Mh Mm) (R : RdA Mh Mm) (Q : RdB Mh Mm) (C : RdC Mh Mm) (F : Cnf Mh Mm K) (hK : 0 ≤ K ∧ K ≤ 1000000) (x1 : Int) : rC2 wh YX1_compare 3 [(2, 0), (0, x1)] Mh wm YX32_compare 3 [(2, 0), (0, x1)] Mm (fun r M' r2 M2' => r = r2 ∧ Rtp M' M2' ∧ Cnf M' M2' (K + 1000) ∧ frx Fcm Mh M' ∧ frx Gcm Mm M2') := by
  refine rC2.of (by decide) (LE0 rfl) (by decide) (LE0 rfl) ?_
  have is := R.is x1
  obtain ⟨M0, hM0⟩ : ∃ M0, M0 = rh_set Mm 0 0 0 := ⟨_, rfl⟩
  have en : ∀ c k, 0 < c → M0 c k = Mm c k := fun c k h => by rw [hM0]; exact rh_set_a (by omega)
  have T0 : Rtp Mh M0 := by rw [hM0]; exact T.n0
  have g0 : frx Gcm Mm M0 := by rw [hM0]; exact frx.rf.st (by unfold Gcm; omega)
  have cnf : ∀ {X Y : rhM}, (∀ q, X 247 q = Mh 247 q) → (∀ q, Y 144 q = Mm 144 q) → Cnf X Y K := fun e1 e2 q q0 q1 => by
    rw [e1, e2]
    exact F q q0 q1
  refine rh2.l (rX1_compare_0 hh _ _ ?_)
  refine ⟨⟨by omega, by omega⟩, fun _ => ⟨by omega, by omega⟩, fun c => ?_, fun c => ?_⟩
  · refine rh1.of (rX32_compare_0 hm _ _ ?_)
    rw [← hM0, en 113 _ (by decide)]
    exact ⟨fun _ => ⟨by omega, by omega⟩, fun _ => ⟨rfl, T0, (cnf (fun _ => rfl) (fun q => en 144 q (by decide))).w (by omega), frx.rf, g0⟩, fun z => absurd (fun y => c (is.mpr y)) z⟩
  have c' := is.mp (Classical.byContradiction c)
  have hx := hs_rd hh (show 0 ≤ x1 by omega) (show x1 < 4 by omega)
  obtain ⟨o, A1, k, B1, KA, KB, ⟨f1, g1⟩, alt⟩ := c_knownT hh hm T0
  have MS : ∀ P : Int → rhM → Prop, rh1 wm YX32_compare 3 20 [(0, 2, 0), (1, 0, x1)] [(0, k)] B1 P → rh1 wm YX32_compare 3 0 [(0, 2, 0), (1, 0, x1)] [] Mm P := fun P HP => by
    refine rh1.of (rX32_compare_0 hm _ _ ?_)
    rw [← hM0, en 113 _ (by decide)]
    exact ⟨fun _ => ⟨by omega, by omega⟩, fun z => absurd c' z, fun _ => rh1.s (vX32_compare_17 hm KB (LE0 rfl)) HP⟩
  have gB1 : frx Gcm Mm B1 := g0.tr (g1.w (fun c j h => by unfold Fkm at h; unfold Gcm; omega))
  have fA1 : frx Fcm Mh A1 := f1.w (fun c j h => by unfold Fkh at h; unfold Fcm Ftp; omega)
  rcases alt with ⟨rfl, a6, k0, k1⟩ | ⟨rfl, rfl, KN⟩
  · refine rh2.sl ((vcX1_compare_12 hh KA (LE0 rfl)).toS) ?_
    refine rh2.sl ((eG.less (L' := [(0, 2, 0)]) (fun z hz => by rw [List.mem_singleton] at hz; rw [hz]; exact List.mem_cons_self)).toS) ?_
    refine rh2.l (rX1_compare_26 hh _ ?_)
    rw [a6]
    refine ⟨⟨by omega, by omega⟩, MS _ ?_⟩
    refine rh1.of (rX32_compare_20 hm _ _ _ ?_)
    refine ⟨fun _ => ⟨⟨by omega, by omega⟩, rfl, Rtp.use (Mh := Mh) (Mm := Mm) (rh_set_s _ _ _ _) (rh_set_s _ _ _ _), (cnf (fun q => ?_) (fun q => ?_)).w (by omega), fA1.st (by unfold Fcm Ftp; omega), gB1.st (by unfold Gcm; omega)⟩, fun z => by omega⟩
    · rw [rh_set_a (by decide)]; exact f1 247 q (by unfold Fkh; omega)
    · rw [rh_set_a (by decide), g1 144 q (by unfold Fkm; omega)]; exact en 144 q (by decide)
  · refine rh2.sl (vX1_compare_12 hh KA (LE0 rfl)) ?_
    refine rh2.l (rX1_compare_15 hh _ _ ?_)
    refine ⟨⟨by omega, by omega⟩, ?_⟩
    obtain ⟨A2, hA2⟩ : ∃ A2, A2 = rh_set A1 1 2 0 := ⟨_, rfl⟩
    have fA2 : frx Fcm Mh A2 := by rw [hA2]; exact fA1.st (by unfold Fcm Ftp; omega)
    rw [← hA2]
    obtain ⟨v, A3, B3, KF, KR, f3, g3, alt2⟩ := t_own hh hm R Q C (r := x1) ⟨by omega, by omega⟩ c'.2 (A := A2) (B := B1) (G := Gcm) (fun c i h => fA2 c i (by unfold Fcm Ftp; omega)) gB1 (fun c j c0 c1 => by unfold Gcm; omega)
    have fA3 : frx Fcm Mh A3 := fA2.tr (f3.w (fun c j h => by unfold Foh at h; unfold Fcm; omega))
    have gB3 : frx Gcm Mm B3 := gB1.tr (g3.w (fun c j h => by unfold Fpl Fow at h; unfold Gcm; omega))
    have z3 : A3 1 2 = 0 := by rw [f3 1 2 (by unfold Foh; omega), hA2, rh_set_s]
    have e247 : ∀ q, A3 247 q = Mh 247 q := fun q => by rw [f3 247 q (by unfold Foh; omega), hA2, rh_set_a (by decide)]; exact f1 247 q (by unfold Fkh; omega)
    have e144 : ∀ q, B3 144 q = Mm 144 q := fun q => by rw [g3 144 q (by unfold Fpl Fow; omega), g1 144 q (by unfold Fkm; omega)]; exact en 144 q (by decide)
    have MS2 : ∀ P : Int → rhM → Prop, rh1 wm YX32_compare 3 37 [(0, 2, 0)] [] B3 P → rh1 wm YX32_compare 3 0 [(0, 2, 0), (1, 0, x1)] [] Mm P := fun P HP => MS P (by
      refine rh1.of (rX32_compare_20 hm _ _ _ ?_)
      exact ⟨fun z => absurd rfl z, fun _ => rh1.s (vX32_compare_34 hm KR (LE0 rfl)) HP⟩)
    refine rh2.sl (vX1_compare_62 hh KF (LE0 rfl)) ?_
    refine rh2.l (rX1_compare_65 hh _ _ ?_)
    rcases alt2 with ⟨rfl, big⟩ | ⟨rfl, OW⟩
    · refine ⟨fun _ => MS2 _ ?_, fun z => absurd rfl z⟩
      refine rh1.of (rX32_compare_37 hm _ ?_)
      refine ⟨fun _ => ⟨rfl, Rtp.use (Mh := Mh) (Mm := Mm) z3 (rh_set_s _ _ _ _), (cnf e247 (fun q => ?_)).w (by omega), fA3, gB3.st (by unfold Gcm; omega)⟩, fun z => absurd big z⟩
      rw [rh_set_a (by decide)]
      exact e144 q
    · refine ⟨fun z => by omega, fun _ => ?_⟩
      have KN3 : Knw A3 B3 := by
        unfold Knw
        rw [f3 0 32 (by unfold Foh; omega), g3 0 179 (by unfold Fpl Fow; omega), hA2, rh_set_a (by decide)]
        refine ⟨KN.1, KN.2.1, fun t t0 t1 => ?_⟩
        rw [f3 244 t (by unfold Foh; omega), g3 141 t (by unfold Fpl Fow; omega), hA2, rh_set_a (by decide)]
        exact KN.2.2 t t0 t1
      obtain ⟨kn, hkn⟩ : ∃ kn, B3 0 179 = kn := ⟨_, rfl⟩
      obtain ⟨on, hon⟩ : ∃ on, B3 0 181 = on := ⟨_, rfl⟩
      have kb := KN3.2.1
      have ob := OW.2.1
      rw [hkn] at kb
      rw [hon] at ob
      obtain ⟨A4, B4, E1, E2, E3, f4, g4⟩ := t_edits hh hm kb ob (kn + 1).toNat 0 A3 B3 (by omega) (by decide) KN3 OW hkn hon (fun a b a0 b0 b1 h => by omega)
      have KN4 := KN3.fx f4 g4
      have OW4 := OW.fx f4 g4
      have hkn4 : B4 0 179 = kn := by rw [g4 0 179 (by decide)]; exact hkn
      have hon4 : B4 0 181 = on := by rw [g4 0 181 (by decide)]; exact hon
      have wk := wbd (w := on + 1) (a := kn) ⟨by omega, by omega⟩ ⟨by omega, by omega⟩
      have last := E3 kn on (by omega) (by omega) (by omega) (.inl (by omega))
      have KE : eC wh YX1_edits 1 [(2, 0)] A3 (B4 143 (401 * kn + on)) A4 := eC.of1 (rC1.of (by decide) (LE0 rfl) (by
        refine rh1.of (rX1_edits_0 hh _ ?_)
        rw [OW.1, hon]
        refine ⟨⟨by omega, by omega⟩, rh1.s E1 ?_⟩
        refine rh1.of (rX1_edits_9 hh _ _ _ ?_)
        rw [KN4.1, hkn4, OW4.1, hon4]
        exact ⟨fun z => by omega, fun _ => ⟨⟨by omega, by omega⟩, last.1, rfl⟩⟩))
      have WL : Wkb A4 B4 kn on := ⟨by rw [← hkn4]; exact KN4.2.2, by rw [← hon4]; exact OW4.2.2, E3⟩
      obtain ⟨A5, B5, H1, H2, H3, f5, g5⟩ := t_conf hh hm kb ob 800 kn on K A4 B4 (by omega) ⟨by omega, by omega⟩ ⟨by omega, by omega⟩ WL (cnf (fun q => by rw [f4 247 q (show ¬ (247 : Int) = 246 by decide)]; exact e247 q) (fun q => by rw [g4 144 q (show ¬ (144 : Int) = 143 by decide)]; exact e144 q)) ⟨by omega, by omega⟩
      have KC : eC wh YX1_confuse 1 [(2, 0)] A4 0 A5 := eC.of1 (rC1.of (by decide) (LE0 rfl) (by
        refine rh1.of (rX1_confuse_0 hh _ ?_)
        rw [OW4.1, hon4, KN4.1, hkn4]
        exact ⟨⟨by omega, by omega⟩, H1 _ ⟨rfl, rfl⟩⟩))
      have KD : eC wm YX32_countConfusions 1 [(2, 0)] B4 0 B5 := eC.of1 (rC1.of (by decide) (LE0 rfl) (by
        refine rh1.of (rX32_countConfusions_0 hm _ ?_)
        rw [hkn4, hon4]
        exact H2 _ ⟨rfl, rfl⟩))
      refine rh2.sl (vX1_compare_72 hh KE (LE0 rfl)) ?_
      refine rh2.l (rX1_compare_75 hh _ _ ?_)
      refine rh2.sl (vX1_compare_77 hh KC (LE0 rfl)) ?_
      refine rh2.l (rX1_compare_80 hh _ _ ?_)
      refine MS2 _ ?_
      refine rh1.of (rX32_compare_37 hm _ ?_)
      rw [hon]
      refine ⟨fun z => by omega, fun _ => rh1.s E2 ?_⟩
      refine rh1.of (rX32_compare_56 hm _ _ ?_)
      rw [hkn4]
      refine ⟨fun z => by omega, fun _ => ?_⟩
      refine rh1.s (vX32_compare_212 hm KD (LE0 rfl)) ?_
      refine rh1.of (rX32_compare_215 hm _ ?_)
      rw [g5 0 179 (by decide), g5 0 181 (by decide), hkn4, hon4, g5 143 _ (show ¬ (143 : Int) = 144 by decide)]
      refine ⟨⟨by omega, by omega⟩, rfl, Rtp.use (Mh := Mh) (Mm := Mm) ?_ (rh_set_s _ _ _ _), fun q q0 q1 => ?_, (fA3.tr (f4.w (fun c j h => by unfold Fcm; omega))).tr (f5.w (fun c j h => by unfold Fcm; omega)), ((gB3.tr (g4.w (fun c j h => by unfold Gcm; omega))).tr (g5.w (fun c j h => by unfold Gcm; omega))).st (by unfold Gcm; omega)⟩
      · rw [f5 1 2 (by decide), f4 1 2 (by decide)]; exact z3
      · rw [rh_set_a (by decide)]
        have := H3 q q0 q1
        omega
end CompareO
