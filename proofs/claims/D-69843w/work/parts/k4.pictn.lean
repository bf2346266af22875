/-! ===== LAYER 2: pictures: blanks and numbers on the tape ===== -/
section PictN
variable {wh wm : rhW}
theorem set_tt {M : rhM} {c j a b : Int} : rh_set (rh_set M c j a) c j b = rh_set M c j b := by
  funext x y
  by_cases h : x = c
  · by_cases g : y = j
    · rw [h, g, rh_set_s, rh_set_s]
    · rw [rh_set_j g, rh_set_j g, rh_set_j g]
  · rw [rh_set_a h, rh_set_a h, rh_set_a h]
def Pbl (c : Int) : Prop := (c = 9) ∨ ((c = 10) ∨ ((c = 13) ∨ ((c = 32) ∨ (c = 35))))
def Dgq (c : Int) : Prop := 48 ≤ c ∧ c ≤ 57
/-- the tape while it is read -/
def Tq (v : Int → Int) (N : Int) (A B : rhM) : Prop := (A 1 2 = N ∧ B 0 2 = N ∧ 0 ≤ N ∧ N ≤ 4096) ∧ ∀ i : Int, 0 ≤ i → i < N → rh_and (A 2 i) 255 = v i ∧ B 1 i = v i ∧ 0 ≤ v i ∧ v i ≤ 255
theorem Tq.fx {v : Int → Int} {N : Int} {A B A' B' : rhM} (T : Tq v N A B) (h1 : A' 1 2 = A 1 2) (h2 : A' 2 = A 2) (g1 : B' 0 2 = B 0 2) (g2 : B' 1 = B 1) : Tq v N A' B' := by
  obtain ⟨t, u⟩ := T
  refine ⟨?_, fun i i0 i1 => ?_⟩
  · rw [h1, g1]; exact t
  · rw [h2, g2]; exact u i i0 i1
noncomputable def lkq (v : Int → Int) (N k : Int) : Int := rh_if (k < N) (v k) (-1)
theorem lk_t {v : Int → Int} {N k : Int} (h : k < N) : lkq v N k = v k := rh_if_t h
theorem lk_f {v : Int → Int} {N k : Int} (h : ¬ k < N) : lkq v N k = -1 := rh_if_f h
theorem lk_h {v : Int → Int} {N k : Int} {A B : rhM} (T : Tq v N A B) (h : A 1 3 = k) (k0 : 0 ≤ k) : rh_if ((A 1 3) < (A 1 2)) (rh_and (A 2 (A 1 3)) 255) (-1) = lkq v N k := by
  unfold lkq
  rw [h, T.1.1]
  by_cases c : k < N
  · rw [rh_if_t c, rh_if_t c, (T.2 k k0 c).1]
  · rw [rh_if_f c, rh_if_f c]
theorem lk_m {v : Int → Int} {N k : Int} {A B : rhM} (T : Tq v N A B) (h : B 0 10 = k) (k0 : 0 ≤ k) : rh_if ((B 0 10) < (B 0 2)) (B 1 (B 0 10)) (-1) = lkq v N k := by
  unfold lkq
  rw [h, T.1.2.1]
  by_cases c : k < N
  · rw [rh_if_t c, rh_if_t c, (T.2 k k0 c).2.1]
  · rw [rh_if_f c, rh_if_f c]
theorem t_skip (hh : rh_hs wh) (hm : rh_ms wm) {v : Int → Int} {N k : Int} {A B : rhM} (T : Tq v N A B) (hA : A 1 3 = k) (hB : B 0 10 = k) (k0 : 0 ≤ k) (k1 : k ≤ N) : ∃ k', ((k ≤ k' ∧ k' ≤ N) ∧ ¬ Pbl (lkq v N k') ∧ (¬ Pbl (lkq v N k) → k' = k)) ∧ eC wh YX13_skip 1 [(2, 22)] A 0 (rh_set A 1 3 k') ∧ eC wm YX32_skipPictureBlanks 1 [(2, 0)] B 0 (rh_set B 0 10 k') := by
  have TA : ∀ i : Int, Tq v N (rh_set A 1 3 i) (rh_set B 0 10 i) := fun i => T.fx (rh_set_j (by decide)) (rh_set_n (by decide)) (rh_set_j (by decide)) (rh_set_n (by decide))
  have t1 := T.1.1
  have t2 := T.1.2.1
  have t3 := T.1.2.2.2
  have hob : ∀ i : Int, 0 ≤ i → (((rh_set A 1 3 i) 1 3) < ((rh_set A 1 3 i) 1 2)) → ((0 ≤ ((rh_set A 1 3 i) 1 3)) ∧ (((rh_set A 1 3 i) 1 3) < 4096)) := fun i i0 => by
    rw [rh_set_s, rh_set_j (by decide), t1]
    intro z
    exact ⟨by omega, by omega⟩
  have H44 : ∀ (i : Int) (P : Int → rhM → Prop), 0 ≤ i → i < N → ¬ v i = 10 → rh1 wh YX13_skip 1 44 [(0, 2, 22)] [] (rh_set A 1 3 (i + 1)) P → rh1 wh YX13_skip 1 44 [(0, 2, 22)] [] (rh_set A 1 3 i) P := fun i P i0 i1 c K => by
    have e := lk_h (TA i) (rh_set_s _ _ _ _) i0
    refine rh1.of (rX13_skip_44 hh _ ?_)
    rw [e, lk_t i1]
    refine ⟨fun _ => hob i i0, fun _ => ?_, fun z => absurd ⟨?_, c⟩ z⟩
    · rw [rh_set_s, set_tt]
      exact ⟨⟨by omega, by omega⟩, K⟩
    · rw [rh_set_s, rh_set_j (by decide), t1]
      exact (by omega)
  have H8 : ∀ (i : Int) (P : Int → rhM → Prop), 0 ≤ i → (i = N ∨ (i < N ∧ v i = 10)) → rh1 wh YX13_skip 1 8 [(0, 2, 22), (1, 0, lkq v N i)] [] (rh_set A 1 3 i) P → rh1 wh YX13_skip 1 44 [(0, 2, 22)] [] (rh_set A 1 3 i) P := fun i P i0 c K => by
    have e := lk_h (TA i) (rh_set_s _ _ _ _) i0
    refine rh1.of (rX13_skip_44 hh _ ?_)
    rw [e]
    refine ⟨fun _ => hob i i0, fun z => ?_, fun _ M3 e3 => ?_⟩
    · rw [rh_set_s, rh_set_j (by decide), t1] at z
      rcases c with c | c
      · exact absurd c z.1
      · exact absurd ((lk_t c.1).trans c.2) z.2
    · subst e3
      refine ⟨hob i i0, fun x ex => ?_⟩
      rw [ex, e]
      exact K
  have G41 : ∀ (i : Int) (P : Int → rhM → Prop), 0 ≤ i → i < N → ¬ v i = 10 → rh1 wm YX32_skipPictureBlanks 1 41 [(0, 2, 0)] [] (rh_set B 0 10 (i + 1)) P → rh1 wm YX32_skipPictureBlanks 1 41 [(0, 2, 0)] [] (rh_set B 0 10 i) P := fun i P i0 i1 c K => by
    have e1 : rh_set B 0 10 i 1 i = v i := ((TA i).2 i i0 i1).2.1
    refine rh1.of (rX32_skipPictureBlanksz_41 hm _ ?_)
    rw [rh_set_s, e1, rh_set_j (by decide), t2]
    refine ⟨fun z => by omega, fun _ => ⟨⟨by omega, by omega⟩, fun z => absurd z c, fun _ => ⟨⟨by omega, by omega⟩, ?_⟩⟩⟩
    rw [set_tt]
    exact K
  have G0 : ∀ (i : Int) (P : Int → rhM → Prop), 0 ≤ i → (i = N ∨ (i < N ∧ v i = 10)) → rh1 wm YX32_skipPictureBlanks 1 0 [(0, 2, 0)] [] (rh_set B 0 10 i) P → rh1 wm YX32_skipPictureBlanks 1 41 [(0, 2, 0)] [] (rh_set B 0 10 i) P := fun i P i0 c K => by
    refine rh1.of (rX32_skipPictureBlanksz_41 hm _ ?_)
    rw [rh_set_s, rh_set_j (by decide), t2]
    rcases c with c | c
    · exact ⟨fun _ => K, fun z => by omega⟩
    · have e1 : rh_set B 0 10 i 1 i = v i := ((TA i).2 i i0 c.1).2.1
      rw [e1]
      exact ⟨fun _ => K, fun _ => ⟨⟨by omega, by omega⟩, fun _ => K, fun z => absurd c.2 z⟩⟩
  have S8 : ∀ (i : Int) (P : Int → rhM → Prop), ¬ Pbl (lkq v N i) → P 0 (rh_set A 1 3 i) → rh1 wh YX13_skip 1 8 [(0, 2, 22), (1, 0, lkq v N i)] [] (rh_set A 1 3 i) P := fun i P nb hp => by
    refine rh1.of (rX13_skip_8 hh _ _ ?_)
    exact ⟨fun z => absurd z nb, fun _ => hp⟩
  have S0 : ∀ (i : Int) (P : Int → rhM → Prop), 0 ≤ i → ¬ Pbl (lkq v N i) → P 0 (rh_set B 0 10 i) → rh1 wm YX32_skipPictureBlanks 1 0 [(0, 2, 0)] [] (rh_set B 0 10 i) P := fun i P i0 nb hp => by
    refine rh1.of (rX32_skipPictureBlanksz_0 hm _ ?_)
    rw [rh_set_s, rh_set_j (by decide), t2]
    refine ⟨fun z => ⟨by omega, by omega⟩, fun z => ?_, fun _ => hp⟩
    have e1 : rh_set B 0 10 i 1 i = v i := ((TA i).2 i i0 z.1).2.1
    rw [e1] at z
    rw [lk_t z.1] at nb
    exact absurd z.2 nb
  have key : ∀ (u : Nat) (i : Int), i + u = N → 0 ≤ i → (∃ k', ((i ≤ k' ∧ k' ≤ N) ∧ ¬ Pbl (lkq v N k') ∧ (¬ Pbl (lkq v N i) → k' = i)) ∧ (∀ P : Int → rhM → Prop, P 0 (rh_set A 1 3 k') → rh1 wh YX13_skip 1 8 [(0, 2, 22), (1, 0, lkq v N i)] [] (rh_set A 1 3 i) P) ∧ ∀ P : Int → rhM → Prop, P 0 (rh_set B 0 10 k') → rh1 wm YX32_skipPictureBlanks 1 0 [(0, 2, 0)] [] (rh_set B 0 10 i) P) ∧ ∃ k', ((i ≤ k' ∧ k' ≤ N) ∧ ¬ Pbl (lkq v N k')) ∧ (∀ P : Int → rhM → Prop, P 0 (rh_set A 1 3 k') → rh1 wh YX13_skip 1 44 [(0, 2, 22)] [] (rh_set A 1 3 i) P) ∧ ∀ P : Int → rhM → Prop, P 0 (rh_set B 0 10 k') → rh1 wm YX32_skipPictureBlanks 1 41 [(0, 2, 0)] [] (rh_set B 0 10 i) P := by
    intro u
    induction u with
    | zero =>
      intro i hi i0
      have nb : ¬ Pbl (lkq v N i) := by rw [lk_f (by omega)]; unfold Pbl; omega
      exact ⟨⟨i, ⟨⟨by omega, by omega⟩, nb, fun _ => rfl⟩, fun P hp => S8 i P nb hp, fun P hp => S0 i P i0 nb hp⟩, i, ⟨⟨by omega, by omega⟩, nb⟩, fun P hp => H8 i P i0 (.inl (by omega)) (S8 i P nb hp), fun P hp => G0 i P i0 (.inl (by omega)) (S0 i P i0 nb hp)⟩
    | succ u ih =>
      intro i hi i0
      have i1 : i < N := (by omega)
      obtain ⟨⟨k2, ⟨a1, a2, -⟩, a3, a4⟩, k3, ⟨b1, b2⟩, b3, b4⟩ := ih (i + 1) (by omega) (by omega)
      have e1 : rh_set B 0 10 i 1 i = v i := ((TA i).2 i i0 i1).2.1
      have p1 : ∃ k', ((i ≤ k' ∧ k' ≤ N) ∧ ¬ Pbl (lkq v N k') ∧ (¬ Pbl (lkq v N i) → k' = i)) ∧ (∀ P : Int → rhM → Prop, P 0 (rh_set A 1 3 k') → rh1 wh YX13_skip 1 8 [(0, 2, 22), (1, 0, lkq v N i)] [] (rh_set A 1 3 i) P) ∧ ∀ P : Int → rhM → Prop, P 0 (rh_set B 0 10 k') → rh1 wm YX32_skipPictureBlanks 1 0 [(0, 2, 0)] [] (rh_set B 0 10 i) P := by
        by_cases nb : Pbl (lkq v N i)
        · by_cases c : v i = 35
          · refine ⟨k3, ⟨⟨by omega, by omega⟩, b2, fun z => absurd nb z⟩, fun P hp => ?_, fun P hp => ?_⟩
            · refine rh1.of (rX13_skip_8 hh _ _ ?_)
              exact ⟨fun _ => ⟨fun _ => H44 i P i0 i1 (by omega) (b3 P hp), fun z => absurd ((lk_t i1).trans c) z⟩, fun z => absurd nb z⟩
            · refine rh1.of (rX32_skipPictureBlanksz_0 hm _ ?_)
              rw [rh_set_s, rh_set_j (by decide), t2, e1]
              rw [lk_t i1] at nb
              exact ⟨fun z => ⟨by omega, by omega⟩, fun _ => ⟨⟨by omega, by omega⟩, fun _ => G41 i P i0 i1 (by omega) (b4 P hp), fun z => absurd c z⟩, fun z => absurd ⟨i1, nb⟩ z⟩
          · refine ⟨k2, ⟨⟨by omega, by omega⟩, a2, fun z => absurd nb z⟩, fun P hp => ?_, fun P hp => ?_⟩
            · refine rh1.of (rX13_skip_8 hh _ _ ?_)
              refine ⟨fun _ => ⟨fun z => absurd ((lk_t i1).symm.trans z) c, fun _ => ?_⟩, fun z => absurd nb z⟩
              rw [rh_set_s, set_tt]
              refine ⟨⟨by omega, by omega⟩, fun M3 e3 => ?_⟩
              subst e3
              refine ⟨hob (i + 1) (by omega), fun x ex => ?_⟩
              rw [ex, lk_h (TA (i + 1)) (rh_set_s _ _ _ _) (by omega)]
              exact a3 P hp
            · refine rh1.of (rX32_skipPictureBlanksz_0 hm _ ?_)
              rw [rh_set_s, rh_set_j (by decide), t2, e1]
              rw [lk_t i1] at nb
              refine ⟨fun z => ⟨by omega, by omega⟩, fun _ => ⟨⟨by omega, by omega⟩, fun z => absurd z c, fun _ => ⟨⟨by omega, by omega⟩, ?_⟩⟩, fun z => absurd ⟨i1, nb⟩ z⟩
              rw [set_tt]
              exact a4 P hp
        · exact ⟨i, ⟨⟨by omega, by omega⟩, nb, fun _ => rfl⟩, fun P hp => S8 i P nb hp, fun P hp => S0 i P i0 nb hp⟩
      refine ⟨p1, ?_⟩
      by_cases c : v i = 10
      · obtain ⟨k4, ⟨c1, c2, -⟩, c3, c4⟩ := p1
        exact ⟨k4, ⟨c1, c2⟩, fun P hp => H8 i P i0 (.inr ⟨i1, c⟩) (c3 P hp), fun P hp => G0 i P i0 (.inr ⟨i1, c⟩) (c4 P hp)⟩
      · exact ⟨k3, ⟨⟨by omega, by omega⟩, b2⟩, fun P hp => H44 i P i0 i1 c (b3 P hp), fun P hp => G41 i P i0 i1 c (b4 P hp)⟩
  obtain ⟨⟨k', q, h1, h2⟩, -⟩ := key (N - k).toNat k (by omega) k0
  have eA : rh_set A 1 3 k = A := rh_set_e hA
  have eB : rh_set B 0 10 k = B := rh_set_e hB
  rw [eA] at h1
  rw [eB] at h2
  refine ⟨k', q, eC.of1 (rC1.of (by decide) (LE0 rfl) ?_), eC.of1 (rC1.of (by decide) (LE0 rfl) (h2 _ ⟨rfl, rfl⟩))⟩
  have ho := hob k k0
  rw [eA] at ho
  refine rh1.of (rX13_skip_0 hh _ ?_)
  refine ⟨ho, fun x ex => ?_⟩
  rw [ex, lk_h T hA k0]
  exact h1 _ ⟨rfl, rfl⟩
def Fnu (c j : Int) : Prop := (c = 1 ∧ j = 3) ∨ (c = 3 ∧ j = 6) ∨ (c = 22 ∧ (j = 1 ∨ j = 2))
def Gnu (c j : Int) : Prop := c = 0 ∧ (10 ≤ j ∧ j ≤ 12)
/-- how a number was read, on both sides -/
def Pnu (v : Int → Int) (N k lo hi hj : Int) (A B : rhM) (o : Option Int) (A' : rhM) (x : Int) (B' : rhM) : Prop := ∃ f e : Int, (k ≤ f ∧ f ≤ e ∧ e ≤ N) ∧ (0 ≤ x ∧ x ≤ 9999) ∧ (¬ Pbl (lkq v N k) → f = k) ∧ frx Fnu A A' ∧ frx Gnu B B' ∧ (0 ≤ B' 0 10 ∧ B' 0 10 ≤ N) ∧ ((o = none ∧ A' 3 6 = f ∧ B' 0 11 = f) ∨ (o = some 0 ∧ Dgq (lkq v N f) ∧ (A' 22 1 = x ∧ A' 22 2 = f ∧ A' 1 3 = e ∧ B' 0 10 = e) ∧ (lo ≤ x ∧ x ≤ hi ∧ x ≤ 999) ∧ ((hj < x ∧ B' 0 11 = f) ∨ (x ≤ hj ∧ (((lkq v N e = -1 ∨ Pbl (lkq v N e)) ∧ B' 0 11 = B 0 11) ∨ (¬ Pbl (lkq v N e) ∧ ¬ Dgq (lkq v N e) ∧ e < N ∧ B' 0 11 = e))))))
theorem lk_c {v : Int → Int} {N k : Int} {A B : rhM} (T : Tq v N A B) (k0 : 0 ≤ k) : lkq v N k = -1 ∨ (k < N ∧ 0 ≤ lkq v N k) := by
  by_cases c : k < N
  · rw [lk_t c]
    exact .inr ⟨c, (T.2 k k0 c).2.2.1⟩
  · rw [lk_f c]
    exact .inl rfl
/-- the model goes on after four digits, or ends -/
theorem m_numE (hm : rh_ms wm) {v : Int → Int} {N f e x lo hj : Int} {A B : rhM} (T : Tq v N A B) (hB : B 0 10 = e) (hF : B 0 12 = f) (f0 : 0 ≤ f) (fe : f < e) (e1 : e ≤ N) (hx : ¬ (Dgq (lkq v N e) ∧ e - f < 4)) (P : Int → rhM → Prop) (h1 : 3 < e - f ∨ ¬ (lo ≤ x ∧ x ≤ hj) → P x (rh_set B 0 11 f)) (h2 : e - f ≤ 3 → (lo ≤ x ∧ x ≤ hj) → e < N → ¬ Pbl (lkq v N e) → P x (rh_set B 0 11 e)) (h3 : e - f ≤ 3 → (lo ≤ x ∧ x ≤ hj) → (lkq v N e = -1 ∨ Pbl (lkq v N e)) → P x B) : rh1 wm YX32_pictureNumber 2 14 [(0, 2, 0), (1, 0, lo), (2, 0, hj), (3, 0, x)] [] B P := by
  have t2 := T.1.2.1
  have t3 := T.1.2.2.2
  have e0 : 0 ≤ e := (by omega)
  refine rh1.of (rX32_pictureNumber_14 hm _ _ _ _ ?_)
  rw [lk_m T hB e0, hB, hF, t2]
  refine ⟨fun z => ⟨by omega, by omega⟩, fun z => ⟨by omega, by omega⟩, fun z => absurd z hx, fun _ => ⟨fun z => by omega, fun _ => ⟨⟨by omega, by omega⟩, fun z => ?_, fun z => ⟨fun z => ⟨by omega, by omega⟩, fun y => ?_, fun y => ?_⟩⟩⟩⟩
  · exact h1 z
  · have z1 : ¬ (3 < e - f) := fun q => z (.inl q)
    have z2 := Classical.not_not.mp (fun q => z (.inr q))
    have l1 := lk_t (v := v) y.1
    rw [(T.2 e e0 y.1).2.1, ← l1] at y
    exact h2 (by omega) z2 y.1 y.2
  · have z1 : ¬ (3 < e - f) := fun q => z (.inl q)
    have z2 := Classical.not_not.mp (fun q => z (.inr q))
    refine h3 (by omega) z2 ?_
    by_cases c : e < N
    · have l1 := lk_t (v := v) c
      rw [(T.2 e e0 c).2.1, ← l1] at y
      exact .inr (Classical.not_not.mp (fun q => y ⟨c, q⟩))
    · exact .inl (lk_f c)
theorem m_numS (hm : rh_ms wm) {v : Int → Int} {N f e x lo hj : Int} {A B : rhM} (T : Tq v N A B) (hB : B 0 10 = e) (hF : B 0 12 = f) (f0 : 0 ≤ f) (fe : f ≤ e) (hd : Dgq (lkq v N e)) (h4 : e - f < 4) (hx : 0 ≤ x ∧ x ≤ 999) (P : Int → rhM → Prop) (H : rh1 wm YX32_pictureNumber 2 14 [(0, 2, 0), (1, 0, lo), (2, 0, hj), (3, 0, 10 * x + lkq v N e - 48)] [] (rh_set B 0 10 (e + 1)) P) : rh1 wm YX32_pictureNumber 2 14 [(0, 2, 0), (1, 0, lo), (2, 0, hj), (3, 0, x)] [] B P := by
  have t2 := T.1.2.1
  have t3 := T.1.2.2.2
  have e0 : 0 ≤ e := (by omega)
  have eN : e < N := by
    rcases lk_c T e0 with h | h
    · unfold Dgq at hd; omega
    · exact h.1
  have l1 := lk_t (v := v) eN
  have dd := hd
  unfold Dgq at dd
  refine rh1.of (rX32_pictureNumber_14 hm _ _ _ _ ?_)
  rw [lk_m T hB e0, hB, hF, t2]
  refine ⟨fun z => ⟨by omega, by omega⟩, fun z => ⟨by omega, by omega⟩, fun _ => ⟨⟨by omega, by omega⟩, fun y ey => ?_⟩, fun z => absurd ⟨hd, h4⟩ z⟩
  rw [(T.2 e e0 eN).2.1, ← l1] at ey
  rw [ey]
  exact ⟨⟨by omega, by omega⟩, ⟨by omega, by omega⟩, H⟩
/-- what a number of n digits is at most -/
def Dnb (n x : Int) : Prop := 0 ≤ x ∧ (n = 0 → x ≤ 0) ∧ (n = 1 → x ≤ 9) ∧ (n = 2 → x ≤ 99) ∧ (n = 3 → x ≤ 999)
theorem Tq.nu {v : Int → Int} {N : Int} {A B A' B' : rhM} (T : Tq v N A B) (f : frx Fnu A A') (g : frx Gnu B B') : Tq v N A' B' :=
  T.fx (f 1 2 (by unfold Fnu; omega)) (f.cell (fun j => by unfold Fnu; omega)) (g 0 2 (by unfold Gnu; omega)) (g.cell (fun j => by unfold Gnu; omega))
theorem t_num (hh : rh_hs wh) (hm : rh_ms wm) {v : Int → Int} {N k lo hi hj : Int} {A B : rhM} (T : Tq v N A B) (hA : A 1 3 = k) (hB : B 0 10 = k) (k0 : 0 ≤ k) (k1 : k ≤ N) (hij : hj ≤ hi) : rCy wh YX13_readNumber 2 [(2, 22), (0, lo), (0, hi)] A wm YX32_pictureNumber 2 [(2, 0), (0, lo), (0, hj)] B (Pnu v N k lo hi hj A B) := by
  refine rCy.of (by decide) (LE0 rfl) (by decide) (LE0 rfl) ?_
  obtain ⟨f, ⟨fk, nbf, ff⟩, E1, E2⟩ := t_skip hh hm T hA hB k0 k1
  have f0 : 0 ≤ f := (by omega)
  have cf := lk_c T f0
  have key : ∀ (u : Nat) (i x : Int) (A1 B1 : rhM), i - f + u = 3 → f ≤ i → i ≤ N → (i = f → Dgq (lkq v N f)) → Dgq (lkq v N f) → Dnb (i - f) x → A1 1 3 = i → A1 22 1 = x → A1 22 2 = f → B1 0 10 = i → B1 0 12 = f → B1 0 11 = B 0 11 → frx Fnu A A1 → frx Gnu B B1 → rx2 wh YX13_readNumber 2 50 [(0, 2, 22), (1, 0, lo), (2, 0, hi), (3, 0, i - f)] [] A1 wm YX32_pictureNumber 2 14 [(0, 2, 0), (1, 0, lo), (2, 0, hj), (3, 0, x)] [] B1 (Pnu v N k lo hi hj A B) := by
    intro u
    induction u with
    | zero =>
      intro i x A1 B1 hu fi iN df dg nx a1 a2 a3 b1 b2 b3 fA gB
      have T1 := T.nu fA gB
      have t1 := T1.1.1
      have t3 := T1.1.2.2.2
      have i0 : 0 ≤ i := (by omega)
      unfold Dnb at nx
      have x1 := nx.2.2.2.2 (by omega)
      refine rx2.l (rX13_readNumber_50 hh _ _ _ _ ?_)
      rw [lk_h T1 a1 i0, a1, a2, a3, t1]
      refine ⟨fun z => ⟨by omega, by omega⟩, fun z => ?_, fun z => ?_⟩
      · rw [rh_if_f (by omega)]
        refine rx2.t (vtX13_readNumber_88 hh (c_mustT hh _) (LE0 rfl)) ?_
        have l := lk_c T1 i0
        have iN' : i < N := by omega
        refine m_numS hm T1 b1 b2 f0 fi z (by omega) ⟨by omega, by omega⟩ _ ?_
        have gB2 : frx Gnu B (rh_set B1 0 10 (i + 1)) := gB.st (by unfold Gnu; omega)
        refine m_numE hm (T.nu fA gB2) (rh_set_s _ _ _ _) (by rw [rh_set_j (by decide)]; exact b2) f0 (by omega) (by omega) (fun q => by omega) _ (fun _ => ?_) (fun q => by omega) (fun q => by omega)
        exact ⟨f, i, ⟨by omega, by omega⟩, ⟨by omega, by omega⟩, ff, fA.st (by unfold Fnu; omega), gB2.st (by unfold Gnu; omega), by rw [rh_set_j (by decide), rh_set_s]; exact ⟨by omega, by omega⟩, .inl ⟨rfl, rh_set_s _ _ _ _, rh_set_s _ _ _ _⟩⟩
      · by_cases c : lo ≤ x ∧ x ≤ hi
        · rw [rh_if_t c]
          refine rx2.gl (vgX13_readNumber_139 hh (c_must hh (by decide) _) (LE0 rfl)) ?_
          refine rx2.l (rX13_readNumber_142 hh _ ?_)
          refine m_numE hm T1 b1 b2 f0 (by omega) iN (fun q => z q.1) _ (fun q => ?_) (fun q1 q2 q3 q4 => ?_) (fun q1 q2 q3 => ?_)
          · refine ⟨f, i, ⟨by omega, by omega⟩, ⟨by omega, by omega⟩, ff, fA, gB.st (by unfold Gnu; omega), by rw [rh_set_j (by decide), b1]; exact ⟨by omega, by omega⟩, .inr ⟨rfl, dg, ⟨a2, a3, a1, by rw [rh_set_j (by decide)]; exact b1⟩, ⟨by omega, by omega⟩, .inl ⟨(by omega), rh_set_s _ _ _ _⟩⟩⟩
          · exact ⟨f, i, ⟨by omega, by omega⟩, ⟨by omega, by omega⟩, ff, fA, gB.st (by unfold Gnu; omega), by rw [rh_set_j (by decide), b1]; exact ⟨by omega, by omega⟩, .inr ⟨rfl, dg, ⟨a2, a3, a1, by rw [rh_set_j (by decide)]; exact b1⟩, ⟨by omega, by omega⟩, .inr ⟨q2.2, .inr ⟨q4, z, q3, rh_set_s _ _ _ _⟩⟩⟩⟩
          · exact ⟨f, i, ⟨by omega, by omega⟩, ⟨by omega, by omega⟩, ff, fA, gB, by rw [b1]; exact ⟨by omega, by omega⟩, .inr ⟨rfl, dg, ⟨a2, a3, a1, b1⟩, ⟨by omega, by omega⟩, .inr ⟨q2.2, .inl ⟨q3, b3⟩⟩⟩⟩
        · rw [rh_if_f c]
          refine rx2.t (vtX13_readNumber_139 hh (c_mustT hh _) (LE0 rfl)) ?_
          refine m_numE hm T1 b1 b2 f0 (by omega) iN (fun q => z q.1) _ (fun q => ?_) (fun q1 q2 q3 q4 => absurd ⟨q2.1, Int.le_trans q2.2 hij⟩ c) (fun q1 q2 q3 => absurd ⟨q2.1, Int.le_trans q2.2 hij⟩ c)
          exact ⟨f, i, ⟨by omega, by omega⟩, ⟨by omega, by omega⟩, ff, fA.st (by unfold Fnu; omega), gB.st (by unfold Gnu; omega), by rw [rh_set_j (by decide), b1]; exact ⟨by omega, by omega⟩, .inl ⟨rfl, rh_set_s _ _ _ _, rh_set_s _ _ _ _⟩⟩
    | succ u ih =>
      intro i x A1 B1 hu fi iN df dg nx a1 a2 a3 b1 b2 b3 fA gB
      have T1 := T.nu fA gB
      have t1 := T1.1.1
      have t3 := T1.1.2.2.2
      have i0 : 0 ≤ i := (by omega)
      have nx' := nx
      unfold Dnb at nx'
      have x1 : 0 ≤ x ∧ x ≤ 99 := by omega
      refine rx2.l (rX13_readNumber_50 hh _ _ _ _ ?_)
      rw [lk_h T1 a1 i0, a1, a2, a3, t1]
      refine ⟨fun z => ⟨by omega, by omega⟩, fun z => ?_, fun z => ?_⟩
      · have l := lk_c T1 i0
        have iN' : i < N := by omega
        have li := lk_t (v := v) iN'
        rw [rh_if_t (by omega)]
        refine rx2.gl (vgX13_readNumber_88 hh (c_must hh (by decide) _) (LE0 rfl)) ?_
        refine rx2.l (rX13_readNumber_91 hh _ _ _ _ ?_)
        rw [a2]
        refine rx2.gl (eG.fx 1 (x := 10 * x) rfl ⟨by omega, by omega⟩ rfl) ?_
        have K := c_next hh (k := i) (n := N) A1 a1 t1 ⟨by omega, by omega⟩ t3
        rw [(T1.2 i i0 iN').1, ← li] at K
        refine rx2.gl (vgX13_readNumber_103 hh K (LE0 rfl)) ?_
        refine rx2.l (rX13_readNumber_106 hh _ _ _ _ _ _ ?_)
        refine ⟨⟨by omega, by omega⟩, ⟨by omega, by omega⟩, ?_⟩
        refine (fun H => ?_ : _ → _) (ih (i + 1) (10 * x + lkq v N i - 48) (rh_set (rh_set A1 1 3 (i + 1)) 22 1 (10 * x + lkq v N i - 48)) (rh_set B1 0 10 (i + 1)) (by omega) (by omega) (by omega) (fun q => by omega) dg (by unfold Dnb; omega) (by rw [rh_set_a (by decide), rh_set_s]) (rh_set_s _ _ _ _) (by rw [rh_set_j (by decide), rh_set_a (by decide)]; exact a3) (rh_set_s _ _ _ _) (by rw [rh_set_j (by decide)]; exact b2) (by rw [rh_set_j (by decide)]; exact b3) ((fA.st (by unfold Fnu; omega)).st (by unfold Fnu; omega)) (gB.st (by unfold Gnu; omega)))
        rw [show i + 1 - f = i - f + 1 by omega] at H
        obtain ⟨o, A2, r2, B2, q1, q2, q3⟩ := H
        obtain ⟨r3, B3, q4, q5, q6⟩ := m_numS hm (lo := lo) (hj := hj) T1 b1 b2 f0 fi z (by omega) ⟨by omega, by omega⟩ (fun r M => r = r2 ∧ M = B2) ⟨r2, B2, q2, rfl, rfl⟩
        subst q5 q6
        exact ⟨o, A2, r3, B3, q1, q4, q3⟩
      · have fi' : f < i := by
          rcases Int.lt_or_eq_of_le fi with h | h
          · exact h
          · exact absurd (h ▸ dg) z
        by_cases c : lo ≤ x ∧ x ≤ hi
        · rw [rh_if_t c]
          refine rx2.gl (vgX13_readNumber_139 hh (c_must hh (by decide) _) (LE0 rfl)) ?_
          refine rx2.l (rX13_readNumber_142 hh _ ?_)
          refine m_numE hm T1 b1 b2 f0 fi' iN (fun q => z q.1) _ (fun q => ?_) (fun q1 q2 q3 q4 => ?_) (fun q1 q2 q3 => ?_)
          · refine ⟨f, i, ⟨by omega, by omega⟩, ⟨by omega, by omega⟩, ff, fA, gB.st (by unfold Gnu; omega), by rw [rh_set_j (by decide), b1]; exact ⟨by omega, by omega⟩, .inr ⟨rfl, dg, ⟨a2, a3, a1, by rw [rh_set_j (by decide)]; exact b1⟩, ⟨by omega, by omega⟩, .inl ⟨(by omega), rh_set_s _ _ _ _⟩⟩⟩
          · exact ⟨f, i, ⟨by omega, by omega⟩, ⟨by omega, by omega⟩, ff, fA, gB.st (by unfold Gnu; omega), by rw [rh_set_j (by decide), b1]; exact ⟨by omega, by omega⟩, .inr ⟨rfl, dg, ⟨a2, a3, a1, by rw [rh_set_j (by decide)]; exact b1⟩, ⟨by omega, by omega⟩, .inr ⟨q2.2, .inr ⟨q4, z, q3, rh_set_s _ _ _ _⟩⟩⟩⟩
          · exact ⟨f, i, ⟨by omega, by omega⟩, ⟨by omega, by omega⟩, ff, fA, gB, by rw [b1]; exact ⟨by omega, by omega⟩, .inr ⟨rfl, dg, ⟨a2, a3, a1, b1⟩, ⟨by omega, by omega⟩, .inr ⟨q2.2, .inl ⟨q3, b3⟩⟩⟩⟩
        · rw [rh_if_f c]
          refine rx2.t (vtX13_readNumber_139 hh (c_mustT hh _) (LE0 rfl)) ?_
          refine m_numE hm T1 b1 b2 f0 fi' iN (fun q => z q.1) _ (fun q => ?_) (fun q1 q2 q3 q4 => absurd ⟨q2.1, Int.le_trans q2.2 hij⟩ c) (fun q1 q2 q3 => absurd ⟨q2.1, Int.le_trans q2.2 hij⟩ c)
          exact ⟨f, i, ⟨by omega, by omega⟩, ⟨by omega, by omega⟩, ff, fA.st (by unfold Fnu; omega), gB.st (by unfold Gnu; omega), by rw [rh_set_j (by decide), b1]; exact ⟨by omega, by omega⟩, .inl ⟨rfl, rh_set_s _ _ _ _, rh_set_s _ _ _ _⟩⟩
  have fA0 : frx Fnu A (rh_set A 1 3 f) := frx.rf.st (by unfold Fnu; omega)
  have gB0 : frx Gnu B (rh_set B 0 10 f) := frx.rf.st (by unfold Gnu; omega)
  have fA1 : frx Fnu A (rh_set (rh_set A 1 3 f) 22 2 f) := fA0.st (by unfold Fnu; omega)
  have gB1 : frx Gnu B (rh_set (rh_set B 0 10 f) 0 12 f) := gB0.st (by unfold Gnu; omega)
  have T1 := T.nu fA1 gB1
  have t1 := T1.1.1
  have t2 := T1.1.2.1
  have t3 := T1.1.2.2.2
  have a1 : rh_set (rh_set A 1 3 f) 22 2 f 1 3 = f := by rw [rh_set_a (by decide), rh_set_s]
  have b1 : rh_set (rh_set B 0 10 f) 0 12 f 0 10 = f := by rw [rh_set_j (by decide), rh_set_s]
  refine rx2.l (rX13_readNumber_0 hh _ _ _ ?_)
  refine rx2.gl (vgX13_readNumber_1 hh E1 (LE0 rfl)) ?_
  refine rx2.r (rX32_pictureNumber_0 hm _ _ _ ?_)
  refine rx2.sr (vX32_pictureNumber_1 hm E2 (LE0 rfl)) ?_
  refine rx2.r (rX32_pictureNumber_4 hm _ _ _ ?_)
  rw [rh_set_s]
  refine rx2.l (rX13_readNumber_4 hh _ _ _ ?_)
  rw [rh_set_s]
  intro M3 e3
  subst e3
  rw [lk_h T1 a1 f0, a1, rh_set_s, t1]
  refine ⟨fun z => ⟨by omega, by omega⟩, ?_⟩
  by_cases d : 48 ≤ lkq v N f ∧ lkq v N f ≤ 57
  · rw [rh_if_t d]
    refine rx2.gl (vgX13_readNumber_40 hh (c_must hh (by decide) _) (LE0 rfl)) ?_
    refine rx2.l (rX13_readNumber_43 hh _ _ _ ?_)
    have z := key 3 f 0 (rh_set (rh_set (rh_set A 1 3 f) 22 2 f) 22 1 0) (rh_set (rh_set B 0 10 f) 0 12 f) (by omega) (by omega) (by omega) (fun _ => d) d (by unfold Dnb; omega) (by rw [rh_set_a (by decide)]; exact a1) (rh_set_s _ _ _ _) (by rw [rh_set_j (by decide), rh_set_s]) b1 (rh_set_s _ _ _ _) (by rw [rh_set_j (by decide), rh_set_j (by decide)]) (fA1.st (by unfold Fnu; omega)) gB1
    rw [show f - f = 0 by omega] at z
    exact z
  · rw [rh_if_f d]
    refine rx2.t (vtX13_readNumber_40 hh (c_mustT hh _) (LE0 rfl)) ?_
    refine rh1.of (rX32_pictureNumber_14 hm _ _ _ _ ?_)
    rw [lk_m T1 b1 f0, b1, rh_set_s, t2]
    refine ⟨fun z => ⟨by omega, by omega⟩, fun z => ⟨by omega, by omega⟩, fun z => absurd z.1 d, fun _ => ⟨fun _ => ?_, fun z => absurd rfl z⟩⟩
    exact ⟨f, f, ⟨by omega, by omega⟩, ⟨by omega, by omega⟩, ff, fA1.st (by unfold Fnu; omega), gB1.st (by unfold Gnu; omega), by rw [rh_set_j (by decide), b1]; exact ⟨by omega, by omega⟩, .inl ⟨rfl, rh_set_s _ _ _ _, rh_set_s _ _ _ _⟩⟩
end PictN
