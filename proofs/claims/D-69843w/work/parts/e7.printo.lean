/-! ===== LAYER 2: op print ===== -/
section PrintO
variable {wh wm : rhW}
/-- the house's press, the model's: type set from the start -/
theorem t_press (hh : rh_hs wh) (hm : rh_ms wm) {A B : rhM} {n N face s w h : Int} (R : Rfm A B) (hN : B 0 89 = N) (hs : 1 ≤ s ∧ s ≤ 4) (hw : (1 ≤ w ∧ w ≤ 128) ∧ (1 ≤ h ∧ h ≤ 96)) (hM : w * h ≤ 6144) (a8 : A 8 1 = w ∧ A 8 2 = h) (hn : 0 ≤ n ∧ n ≤ 4096) (b2 : B 0 2 = n)
    (tp : ∀ k, 0 ≤ k → k < n → rh_and (A 2 k) 255 = B 1 k ∧ -128 ≤ A 2 k ∧ A 2 k ≤ 127) (ok : ∀ k, 0 ≤ k → k < n → B 1 k = 10 ∨ B 1 k = 32 ∨ ((33 ≤ B 1 k ∧ B 1 k ≤ 126) ∧ fwd (Efm B face (B 1 k)) N.toNat 0 ≠ -1)) :
    ∃ r r2 A' B', eC wh YX23_print 2 [(2, 202), (2, 1), (0, n), (2, 41), (0, face), (0, s)] A r A' ∧ eC wm YX32_setType 2 [(2, 0), (0, w), (0, h), (0, face), (0, s)] B r2 B' ∧ ((r = -104 ∧ r2 = 0) ∨ (r2 = 1 ∧ Typ A' B' N s w h r)) ∧ frx Fty A A' ∧ frx Gty B B' := by
  have mn := szb hw.1 hw.2
  obtain ⟨r0, A1, E1, rfl, f1, z1⟩ := c_fill hh (g := 255) (hs_sh hh) A (by rw [a8.1, a8.2]; omega) (by rw [a8.1, a8.2]; omega)
  rw [a8.1, a8.2] at z1
  have F1 : frx Fty A A1 := f1.x.w (fun a j h => by unfold Fty; omega)
  obtain ⟨A2, hA2⟩ : ∃ A2, A2 = rh_set A1 202 3 0 := ⟨_, rfl⟩
  have F2 : frx Fty A A2 := by rw [hA2]; exact F1.st (by unfold Fty; omega)
  obtain ⟨B1, hB1⟩ : ∃ B1, B1 = rh_set B 0 207 0 := ⟨_, rfl⟩
  have G1 : frx Gty B B1 := by rw [hB1]; exact frx.rf.st (by unfold Gty; omega)
  have R2 : Rfm A2 B := R.k (fun c j c0 c1 => F2 c j (by unfold Fty; omega)) (fun _ _ _ _ => rfl) rfl
  have R3 : Rfm A2 B1 := R.k (fun c j c0 c1 => F2 c j (by unfold Fty; omega)) (fun c j c0 c1 => G1 c j (by unfold Gty; omega)) (G1 0 89 (by unfold Gty; omega))
  have g' : ∀ c, 1 ≤ c → c ≤ 69 → B1 c = B c := fun c c0 c1 => funext (fun j => G1 c j (by unfold Gty; omega))
  have KH := c_height hh R2 (face := face)
  have KF := c_faceHigh hm R (face := face)
  obtain ⟨hi, hhi⟩ : ∃ hi, hi = hgt B face N.toNat 0 0 := ⟨_, rfl⟩
  rw [hN, ← hhi] at KH KF
  have hb := hgt_b (B := B) (face := face) N.toNat 0 0 (fun j j0 j1 => by
    obtain ⟨-, -, -, f4, f5, -⟩ := R.2.2 j j0 (by omega)
    omega) (by decide)
  rw [← hhi] at hb
  have hm2 := mulb (show 0 ≤ s by omega) hs.2 (show 0 ≤ hi by omega) (show hi ≤ 120 by omega)
  have T0 : Typ A2 B1 N s w h 0 := by
    refine ⟨by rw [hA2, rh_set_s], by rw [hB1, rh_set_s], by decide, fun i i0 i1 => by omega, fun q q0 q1 => ?_⟩
    rw [hA2, rh_set_a (by decide), show A1 9 q = rh_i2b 255 from z1 q q0 q1, b255 (by decide) (by decide)]
    rfl
  have eE : ∀ c, Efm B1 face c = Efm B face c := fun c => by
    unfold Efm
    rw [g' 63 (by decide) (by decide), g' 64 (by decide) (by decide)]
  obtain ⟨r, r2, A', B', E2, E3, E4, F3, G3⟩ := t_setp hh hm (A0 := A2) (B0 := B1) (n := n) (N := N) (face := face) (s := s) (w := w) (h := h) (hi := hi) R3 (by rw [G1 0 89 (by unfold Gty; omega)]; exact hN) hs hw hM (by rw [hhi, hgt_f (g' 63 (by decide) (by decide)) (g' 66 (by decide) (by decide)) (g' 67 (by decide) (by decide))]) ⟨by rw [F2 8 1 (by unfold Fty; omega)]; exact a8.1, by rw [F2 8 2 (by unfold Fty; omega)]; exact a8.2⟩ hn (by rw [G1 0 2 (by unfold Gty; omega)]; exact b2) (fun k k0 k1 => by rw [F2 2 k (by unfold Fty; omega), g' 1 (by decide) (by decide)]; exact tp k k0 k1) (fun k k0 k1 => by rw [g' 1 (by decide) (by decide), eE]; exact ok k k0 k1) n.toNat 0 (2 * s) (2 * s + s * hi) 0 A2 B1 (by omega) (by decide) (by omega) (by omega) T0 frx.rf frx.rf
  refine ⟨r, r2, A', B', eC.of1 (rC1.of (by decide) (LE0 rfl) ?_), eC.of1 (rC1.of (by decide) (LE0 rfl) ?_), E4, F2.tr F3, G1.tr G3⟩
  · refine rh1.of (rX23_print_0 hh _ _ _ _ ?_)
    refine rh1.s (vX23_print_7 (hs_sh hh) E1 (LE0 rfl)) ?_
    refine rh1.of (rX23_print_10 hh _ _ _ _ ?_)
    rw [← hA2]
    refine rh1.s (vX23_print_18 hh KH (LE0 rfl)) ?_
    refine rh1.of (rX23_print_21 hh _ _ _ _ _ ?_)
    exact ⟨⟨by omega, by omega⟩, ⟨by omega, by omega⟩, E2 _ ⟨rfl, rfl⟩⟩
  · refine rh1.of (rX32_setType_0 hm _ _ _ _ _ ?_)
    refine rh1.s (vX32_setType_2 hm KF (LE0 rfl)) ?_
    refine rh1.of (rX32_setType_5 hm _ _ _ _ _ _ ?_)
    rw [← hB1]
    exact ⟨⟨by omega, by omega⟩, ⟨by omega, by omega⟩, E3 _ ⟨rfl, rfl⟩⟩
/-- the model's sheet: white, then the letters -/
theorem m_white (hm : rh_ms wm) {x1 x2 x3 x5 x6 x7 N : Int} (hN : x2 * x3 = N) (n0 : 0 ≤ N ∧ N ≤ 6144) : ∀ (u : Nat) (k : Int) (X : rhM), k + u = N → 0 ≤ k → (∀ q, 0 ≤ q → q < k → X 6 q = 255) → ∃ X', eS wm YX32_print 3 157 [(0, 2, 0), (1, 0, x1), (2, 0, x2), (3, 0, x3), (5, 0, x5), (6, 0, x6), (7, 0, x7), (8, 0, k)] [] X 184 [(0, 2, 0), (1, 0, x1), (2, 0, x2), (3, 0, x3), (5, 0, x5), (6, 0, x6), (7, 0, x7), (8, 0, 0)] [] X' ∧ (∀ q, 0 ≤ q → q < N → X' 6 q = 255) ∧ frx (fun c _ => c = 6) X X' := by
  intro u
  induction u with
  | zero =>
    intro k X hk k0 hX
    refine ⟨X, eS.of (fun P HP => ?_), fun q q0 q1 => hX q q0 (by omega), frx.rf⟩
    refine rh1.of (rX32_print_157 hm _ _ _ _ _ _ _ _ ?_)
    rw [hN]
    exact ⟨⟨by omega, by omega⟩, fun z => by omega, fun _ => HP⟩
  | succ u ih =>
    intro k X hk k0 hX
    obtain ⟨X', E, v, F⟩ := ih (k + 1) (rh_set X 6 k 255) (by omega) (by omega) (fun q q0 q1 => by
      by_cases e : q = k
      · rw [e, rh_set_s]
      · rw [rh_set_j e]; exact hX q q0 (by omega))
    refine ⟨X', eS.of (fun P HP => ?_), v, (show frx (fun c _ => c = 6) X _ from frx.rf.st rfl).tr F⟩
    refine rh1.of (rX32_print_157 hm _ _ _ _ _ _ _ _ ?_)
    rw [hN]
    exact ⟨⟨by omega, by omega⟩, fun _ => ⟨⟨by omega, by omega⟩, ⟨by omega, by omega⟩, rh1.s E HP⟩, fun z => by omega⟩
theorem m_puts (hm : rh_ms wm) {B : rhM} {x1 x6 x7 N s w h c : Int} (R : ∀ f, 0 ≤ f → f < N → (1 ≤ B 66 f ∧ B 66 f ≤ 24) ∧ (1 ≤ B 65 f ∧ B 65 f ≤ 24)) (hN : N ≤ 150) (hs : 1 ≤ s ∧ s ≤ 4) (hw : w ≤ 128 ∧ h ≤ 96) (hM : w * h ≤ 6144) (A : rhM) (T : ∀ i, 0 ≤ i → i < c → TyL A B N s w h i) (hc : B 0 207 = c) (hc2 : 0 ≤ c ∧ c ≤ 250) :
    ∀ (u : Nat) (i : Nat) (X : rhM), (i : Int) + u = c → frx (fun a _ => a = 6) B X → (∀ q, 0 ≤ q → q < w * h → X 6 q = pst B s w i q) → ∃ X', eS wm YX32_print 3 184 [(0, 2, 0), (1, 0, x1), (2, 0, w), (3, 0, h), (5, 0, s), (6, 0, x6), (7, 0, x7), (8, 0, (i : Int))] [] X 184 [(0, 2, 0), (1, 0, x1), (2, 0, w), (3, 0, h), (5, 0, s), (6, 0, x6), (7, 0, x7), (8, 0, c)] [] X' ∧ (∀ q, 0 ≤ q → q < w * h → X' 6 q = pst B s w c.toNat q) ∧ frx (fun a _ => a = 6) B X' := by
  intro u
  induction u with
  | zero =>
    intro i X hi F hX
    have e : c = (i : Int) := by omega
    rw [e, Int.toNat_natCast]
    exact ⟨X, eS.rf, hX, F⟩
  | succ u ih =>
    intro i X hi F hX
    obtain ⟨l1, l2, l3, l4, l5⟩ := T i (by omega) (by omega)
    obtain ⟨h66, h65⟩ := R (B 165 i) l1.1 l1.2
    have g' : ∀ a, a ≠ 6 → X a = B a := fun a ha => funext (fun j => F a j ha)
    obtain ⟨X1, K1, v1, F1⟩ := m_draw hm (B := X) (t := i) (f := B 165 i) (s := s) (x := B 163 i) (y := B 164 i - s * B 66 (B 165 i)) (w := w) (h := h) ⟨by omega, by omega⟩ ⟨by omega, by omega⟩ hs (by rw [g' 65 (by decide)]; exact l4) (by rw [g' 66 (by decide)]; omega) (by rw [g' 66 (by decide)]; exact h66) (by rw [g' 65 (by decide)]; exact h65) hw hM (by rw [g' 163 (by decide)]) (by rw [g' 164 (by decide), g' 66 (by decide)]; omega) (by rw [g' 165 (by decide)])
    have de : ∀ q, Dtl X (B 165 i) s (B 163 i) (B 164 i - s * B 66 (B 165 i)) w 0 q = Dtl B (B 165 i) s (B 163 i) (B 164 i - s * B 66 (B 165 i)) w 0 q := fun q => by
      unfold Dtl Dtr dtf
      rw [g' 65 (by decide), g' 66 (by decide), g' 69 (by decide)]
    obtain ⟨X', E, v, F'⟩ := ih (i + 1) X1 (by omega) (F.tr F1) (fun q q0 q1 => by
      rw [v1 q, de q, hX q q0 q1]
      rfl)
    refine ⟨X', eS.of (fun P HP => ?_), v, F'⟩
    refine rh1.of (rX32_print_184 hm _ _ _ _ _ _ _ _ ?_)
    rw [F 0 207 (by decide), hc]
    refine ⟨fun _ => ?_, fun z => by omega⟩
    refine rh1.s (vX32_print_200 hm K1 (LE0 rfl)) ?_
    refine rh1.of (rX32_print_203 hm _ _ _ _ _ _ _ _ ?_)
    refine ⟨⟨by omega, by omega⟩, ?_⟩
    rw [show (i : Int) + 1 = ((i + 1 : Nat) : Int) by omega]
    exact rh1.s E HP
/-- what the press tells a page -/
theorem hs_203 (hh : rh_hs wh) : rh_ar wh 203 .int 250 := rh_hs_ar hh 203 (by decide) rfl
theorem hs_204 (hh : rh_hs wh) : rh_ar wh 204 .int 1000 := rh_hs_ar hh 204 (by decide) rfl
theorem c_tell (hh : rh_hs wh) {x c : Int} (hx : rh_bl wh 0 x 0) (hx2 : 251 ≤ x) (M : rhM) (hc : M 202 3 = c) (hc2 : 0 ≤ c ∧ c ≤ 250) : eC wh YX23_tell 1 [(2, 202), (2, x)] M 0 (rh_cpy (rh_cpy (rh_set M x 16 c) 203 0 (x + 37) 0 c) 204 0 (x + 38) 0 (4 * c)) := by
  refine eC.of1 (rC1.of (by decide) (LE0 rfl) ?_)
  obtain ⟨n1, p1, p2, p3⟩ := (hx.2 37 _ rfl).1
  obtain ⟨n2, q1, q2, q3⟩ := (hx.2 38 _ rfl).1
  have p2' : (n1 : Int) = ((0 : Nat) : Int) * 0 + ((250 : Nat) : Int) := p2
  have q2' : (n2 : Int) = ((0 : Nat) : Int) * 0 + ((1000 : Nat) : Int) := q2
  refine rh1.of (rX23_tell_0 hh _ _ hx ?_)
  rw [hc]
  (intro zq hzq; replace hzq := hzq.symm; subst hzq)
  rw [rh_set_a (by omega), hc]
  refine rh1.s (vX23_tell_22 (ty := .int) (tt := 0) (n0 := 250) (n1 := n1) rfl rfl rfl (hs_203 hh) p1 rfl rfl rfl (by omega) (by omega) (by omega) (by omega) (by omega) (by decide) p3 (LE0 rfl)) ?_
  refine rh1.of (rX23_tell_25 hh _ _ hx ?_)
  rw [rh_cpy_a (by omega), rh_set_a (by omega), hc]
  refine rh1.s (vX23_tell_41 (ty := .int) (tt := 0) (n0 := 1000) (n1 := n2) rfl rfl rfl (hs_204 hh) q1 rfl rfl rfl (by omega) (by omega) (by omega) (by omega) (by omega) (by decide) q3 (LE0 rfl)) ?_
  refine rh1.of (rX23_tell_44 hh _ ?_)
  exact ⟨rfl, rfl⟩
/-- the model's rows of what was made -/
theorem m_made (hm : rh_ms wm) {p s N c : Int} (hp : 0 ≤ p ∧ p < 8) (hN : N ≤ 150) (hs : 1 ≤ s ∧ s ≤ 4) (hc2 : 0 ≤ c ∧ c ≤ 250) (B : rhM) (hc : B 0 207 = c) (T : ∀ i, 0 ≤ i → i < c → (0 ≤ B 165 i ∧ B 165 i < N) ∧ (0 ≤ B 164 i ∧ B 164 i ≤ 96)) (R : ∀ f, 0 ≤ f → f < N → (1 ≤ B 66 f ∧ B 66 f ≤ 24) ∧ (1 ≤ B 65 f ∧ B 65 f ≤ 24)) :
    ∀ (u : Nat) (i : Int) (X : rhM), i + u = c → 0 ≤ i → frx (fun a _ => 158 ≤ a ∧ a ≤ 162) B X → ∃ X', eS wm YX32_print 3 240 [(0, 2, 0), (1, 0, p), (5, 0, s), (8, 0, i)] [] X 240 [(0, 2, 0), (1, 0, p), (5, 0, s), (8, 0, c)] [] X' ∧ (∀ j, i ≤ j → j < c → X' 158 (250 * p + j) = B 64 (B 165 j) ∧ X' 159 (250 * p + j) = B 163 j ∧ X' 160 (250 * p + j) = B 164 j - s * B 66 (B 165 j) ∧ X' 161 (250 * p + j) = s * B 65 (B 165 j) ∧ X' 162 (250 * p + j) = s * B 66 (B 165 j)) ∧ (∀ a j, (158 ≤ a ∧ a ≤ 162) → j < 250 * p + i → X' a j = X a j) ∧ frx (fun a j => (158 ≤ a ∧ a ≤ 162) ∧ 250 * p ≤ j ∧ j < 250 * p + 250) X X' ∧ frx (fun a _ => 158 ≤ a ∧ a ≤ 162) B X' := by
  intro u
  induction u with
  | zero =>
    intro i X hi i0 F
    have e : i = c := by omega
    subst e
    exact ⟨X, eS.rf, fun j j0 j1 => by omega, fun _ _ _ _ => rfl, frx.rf, F⟩
  | succ u ih =>
    intro i X hi i0 F
    obtain ⟨t1, t2⟩ := T i i0 (by omega)
    obtain ⟨h66, h65⟩ := R (B 165 i) t1.1 t1.2
    have b1 := mulb (show 0 ≤ s by omega) hs.2 (show 0 ≤ B 66 (B 165 i) by omega) h66.2
    have b2 := mulb (show 0 ≤ s by omega) hs.2 (show 0 ≤ B 65 (B 165 i) by omega) h65.2
    obtain ⟨X1, hX1⟩ : ∃ X1, X1 = rh_set (rh_set (rh_set (rh_set (rh_set X 158 (250 * p + i) (B 64 (B 165 i))) 159 (250 * p + i) (B 163 i)) 160 (250 * p + i) (B 164 i - s * B 66 (B 165 i))) 161 (250 * p + i) (s * B 65 (B 165 i))) 162 (250 * p + i) (s * B 66 (B 165 i)) := ⟨_, rfl⟩
    have f1 : frx (fun a j => (158 ≤ a ∧ a ≤ 162) ∧ j = 250 * p + i) X X1 := by
      rw [hX1]
      exact ((((frx.rf.st (by omega)).st (by omega)).st (by omega)).st (by omega)).st (by omega)
    obtain ⟨X', E, v1, v2, F2, F3⟩ := ih (i + 1) X1 (by omega) (by omega) (F.tr (f1.w (fun a j h => h.1)))
    refine ⟨X', eS.of (fun P HP => ?_), fun j j0 j1 => ?_, fun a j ha hj => ?_, (f1.w (fun a j h => by omega)).tr F2, F3⟩
    · refine rh1.of (rX32_print_240 hm _ _ _ _ ?_)
      rw [F 0 207 (by omega), hc, F 165 _ (by omega), F 64 _ (by omega)]
      refine ⟨fun _ => ⟨⟨by omega, by omega⟩, ⟨by omega, by omega⟩, ⟨by omega, by omega⟩, ?_⟩, fun z => by omega⟩
      (intro zq hzq; replace hzq := hzq.symm; subst hzq)
      refine ⟨⟨by omega, by omega⟩, ⟨by omega, by omega⟩, ?_⟩
      rw [rh_set_a (a := 163) (by decide), F 163 _ (by omega)]
      (intro zq hzq; replace hzq := hzq.symm; subst hzq)
      refine ⟨⟨by omega, by omega⟩, ⟨by omega, by omega⟩, ?_⟩
      rw [rh_set_a (a := 164) (by decide), rh_set_a (a := 164) (by decide), rh_set_a (a := 66) (by decide), rh_set_a (a := 66) (by decide), F 164 _ (by omega), F 66 _ (by omega)]
      (intro zq hzq; replace hzq := hzq.symm; subst hzq)
      refine ⟨⟨by omega, by omega⟩, ⟨by omega, by omega⟩, ?_⟩
      (intro zq hzq; replace hzq := hzq.symm; subst hzq)
      refine ⟨⟨by omega, by omega⟩, ?_⟩
      rw [rh_set_a (a := 65) (by decide), rh_set_a (a := 65) (by decide), rh_set_a (a := 65) (by decide), F 65 _ (by omega)]
      (intro zq hzq; replace hzq := hzq.symm; subst hzq)
      refine ⟨⟨by omega, by omega⟩, ⟨by omega, by omega⟩, ?_⟩
      (intro zq hzq; replace hzq := hzq.symm; subst hzq)
      refine ⟨⟨by omega, by omega⟩, ?_⟩
      rw [rh_set_a (a := 66) (by decide), rh_set_a (a := 66) (by decide), rh_set_a (a := 66) (by decide), rh_set_a (a := 66) (by decide), F 66 _ (by omega)]
      (intro zq hzq; replace hzq := hzq.symm; subst hzq)
      refine ⟨⟨by omega, by omega⟩, ⟨by omega, by omega⟩, ⟨by omega, by omega⟩, ?_⟩
      rw [← hX1]
      exact rh1.s E HP
    · by_cases e : j = i
      · rw [e, v2 158 _ (by omega) (by omega), v2 159 _ (by omega) (by omega), v2 160 _ (by omega) (by omega), v2 161 _ (by omega) (by omega), v2 162 _ (by omega) (by omega), hX1]
        refine ⟨?_, ?_, ?_, ?_, ?_⟩
        · rw [rh_set_a (by decide), rh_set_a (by decide), rh_set_a (by decide), rh_set_a (by decide), rh_set_s]
        · rw [rh_set_a (by decide), rh_set_a (by decide), rh_set_a (by decide), rh_set_s]
        · rw [rh_set_a (by decide), rh_set_a (by decide), rh_set_s]
        · rw [rh_set_a (by decide), rh_set_s]
        · rw [rh_set_s]
      · exact v1 j (by omega) j1
    · rw [v2 a j ha (by omega), f1 a j (by omega)]
def Fpt (c j : Int) : Prop := Hw c j ∨ Ftp c j ∨ (202 ≤ c ∧ c ≤ 204)
def Gpt (c j : Int) : Prop := Gw c j ∨ (c = 0 ∧ (j = 2 ∨ j = 207)) ∨ (163 ≤ c ∧ c ≤ 165)
/-- what print leaves -/
def Pprt (Mh Mm M' M2' : rhM) : Prop := (frx Fpt Mh M' ∧ frx Gpt Mm M2') ∨ ∃ q, (0 ≤ q ∧ q < 8) ∧ Rpg M' M2' ∧ (M' (251 + 39 * q + 9) 0 = 0 ∧ M' (251 + 39 * q) 4 = 0 ∧ M2' 23 q = 0) ∧ (M' (251 + 39 * q) 16 = M2' 157 q ∧ (0 ≤ M2' 157 q ∧ M2' 157 q ≤ 250) ∧ ∀ i, 0 ≤ i → i < M2' 157 q → M' (251 + 39 * q + 37) i = M2' 158 (250 * q + i) ∧ M' (251 + 39 * q + 38) (4 * i) = M2' 159 (250 * q + i) ∧ M' (251 + 39 * q + 38) (4 * i + 1) = M2' 160 (250 * q + i) ∧ M' (251 + 39 * q + 38) (4 * i + 2) = M2' 161 (250 * q + i) ∧ M' (251 + 39 * q + 38) (4 * i + 3) = M2' 162 (250 * q + i)) ∧ frx (fun c j => Fpt c j ∨ Flay q c j ∨ c = 251 + 39 * q + 37 ∨ c = 251 + 39 * q + 38) Mh M' ∧ frx (fun c j => Gpt c j ∨ Glay q c j ∨ ((158 ≤ c ∧ c ≤ 162) ∧ 250 * q ≤ j ∧ j < 250 * q + 250)) Mm M2'
theorem op_print (hh : rh_hs wh) (hm : rh_ms wm) {Mh Mm : rhM} (T : Rtp Mh Mm) (G : Rpg Mh Mm) (R : Rfm Mh Mm) (x1 x2 x3 x4 x5 x6 x7 : Int) : rC2 wh YX1_print 3 [(2, 0), (0, x1), (0, x2), (0, x3), (0, x4), (0, x5), (0, x6), (0, x7)] Mh wm YX32_print 3 [(2, 0), (0, x1), (0, x2), (0, x3), (0, x4), (0, x5), (0, x6), (0, x7)] Mm (fun r M' r2 M2' => r = r2 ∧ Rtp M' M2' ∧ Pprt Mh Mm M' M2') := by
  refine rC2.of (by decide) (LE0 rfl) (by decide) (LE0 rfl) ?_
  generalize hPost : (fun (r : Int) (M' : rhM) (r2 : Int) (M2' : rhM) => r = r2 ∧ Rtp M' M2' ∧ Pprt Mh Mm M' M2') = Post
  obtain ⟨M0, hM0⟩ : ∃ M0, M0 = rh_set Mm 0 0 0 := ⟨_, rfl⟩
  have en : ∀ c k, 0 < c → M0 c k = Mm c k := fun c k h => by rw [hM0]; exact rh_set_a (by omega)
  have T0 : Rtp Mh M0 := by rw [hM0]; exact T.n0
  have g0 : frx Gpt Mm M0 := by rw [hM0]; exact frx.rf.st (by unfold Gpt Gw; omega)
  have R0 : Rfm Mh M0 := R.k (fun _ _ _ _ => rfl) (fun c j c0 _ => en c j (by omega)) (by rw [hM0]; exact rh_set_j (by decide))
  refine rh2.l (rX1_print_0 hh _ _ _ _ _ _ _ _ ?_)
  refine ⟨fun c => ?_, fun c => ⟨fun s1 s2 => by have := szb s1 s2; exact ⟨by omega, by omega⟩, fun d => ?_, fun d => ?_⟩⟩
  · refine rh1.of (rX32_print_0 hm _ _ _ _ _ _ _ _ ?_)
    rw [← hM0, ← hPost]
    exact ⟨fun _ => ⟨rfl, T0, .inl ⟨frx.rf, g0⟩⟩, fun z => absurd c z⟩
  · refine rh1.of (rX32_print_0 hm _ _ _ _ _ _ _ _ ?_)
    rw [← hM0, ← hPost]
    exact ⟨fun z => absurd z c, fun _ => ⟨fun s1 s2 => by have := szb s1 s2; exact ⟨by omega, by omega⟩, fun _ => ⟨rfl, T0, .inl ⟨frx.rf, g0⟩⟩, fun z => absurd d z⟩⟩
  have c' : 0 ≤ x1 ∧ x1 ≤ 7 := Classical.byContradiction c
  have sz : ((1 ≤ x2 ∧ x2 ≤ 128) ∧ ((1 ≤ x3 ∧ x3 ≤ 96) ∧ x2 * x3 ≤ 6144)) := Classical.byContradiction (fun z => d (.inl z))
  have d4 : 0 ≤ x4 ∧ x4 ≤ 3 := Classical.byContradiction (fun z => d (.inr (.inl z)))
  have d5 : 1 ≤ x5 ∧ x5 ≤ 4 := Classical.byContradiction (fun z => d (.inr (.inr (.inl z))))
  have d7 : 0 ≤ x7 ∧ x7 ≤ 2000 := Classical.byContradiction (fun z => d (.inr (.inr (.inr z))))
  refine rh2.r (rX32_print_0 hm _ _ _ _ _ _ _ _ ?_)
  rw [← hM0]
  refine ⟨fun z => absurd z c, fun _ => ⟨fun s1 s2 => by have := szb s1 s2; exact ⟨by omega, by omega⟩, fun z => absurd z d, fun _ => ?_⟩⟩
  have TT := T0
  obtain ⟨t1, t2, t3, t4⟩ := T0
  obtain ⟨n, hn⟩ : ∃ n, M0 0 2 = n := ⟨_, rfl⟩
  rw [hn] at t1 t2 t3 t4
  obtain ⟨N, hN⟩ : ∃ N, M0 0 89 = N := ⟨_, rfl⟩
  have r1 := R0.2.1
  rw [hN] at r1
  rw [t1]
  obtain ⟨A0, hA0⟩ : ∃ A0, A0 = rh_set (rh_set Mh 1 3 0) 1 2 0 := ⟨_, rfl⟩
  have fA0 : frx Fpt Mh A0 := by rw [hA0]; exact (frx.rf.st (by unfold Fpt Ftp; omega)).st (by unfold Fpt Ftp; omega)
  have a12 : A0 1 2 = 0 := by rw [hA0, rh_set_s]
  have ao : ∀ c j, c ≠ 1 → A0 c j = Mh c j := fun c j h => by rw [hA0, rh_set_a h, rh_set_a h]
  rw [← hA0]
  have RA : Rfm A0 M0 := R0.k (fun c j c0 _ => ao c j (by omega)) (fun _ _ _ _ => rfl) rfl
  have bad : ∀ v, Post v A0 v (rh_set M0 0 2 0) := fun v => by
    rw [← hPost]
    exact ⟨rfl, Rtp.use (Mh := Mh) (Mm := Mm) a12 (rh_set_s _ _ _ _), .inl ⟨fA0, g0.st (by unfold Gpt; omega)⟩⟩
  have rest : (∀ k, 0 ≤ k → k < n → M0 1 k = 10 ∨ M0 1 k = 32 ∨ ((33 ≤ M0 1 k ∧ M0 1 k ≤ 126) ∧ fwd (Efm M0 x4 (M0 1 k)) N.toNat 0 ≠ -1)) → rh2 wh YX1_print 3 75 [(0, 2, 0), (1, 0, x1), (2, 0, x2), (3, 0, x3), (4, 0, x4), (5, 0, x5), (6, 0, x6), (7, 0, x7), (8, 0, n), (9, 0, n)] [] A0 wm YX32_print 3 69 [(0, 2, 0), (1, 0, x1), (2, 0, x2), (3, 0, x3), (4, 0, x4), (5, 0, x5), (6, 0, x6), (7, 0, x7), (8, 0, n)] [] M0 Post := by
    intro ok
    obtain ⟨A1, hA1⟩ : ∃ A1, A1 = rh_set (rh_set A0 8 1 x2) 8 2 x3 := ⟨_, rfl⟩
    have a81 : A1 8 1 = x2 := by rw [hA1, rh_set_j (by decide), rh_set_s]
    have a82 : A1 8 2 = x3 := by rw [hA1, rh_set_s]
    have ao1 : ∀ c j, c ≠ 8 → A1 c j = A0 c j := fun c j h => by rw [hA1, rh_set_a h, rh_set_a h]
    have fA1 : frx Fpt Mh A1 := by rw [hA1]; exact (fA0.st (by unfold Fpt Hw; omega)).st (by unfold Fpt Hw; omega)
    have RA1 : Rfm A1 M0 := RA.k (fun c j c0 _ => ao1 c j (by omega)) (fun _ _ _ _ => rfl) rfl
    obtain ⟨r, r2, A2, B2, K1, K2, alt, F2, G2⟩ := t_press hh hm (A := A1) (B := M0) (n := n) (N := N) (face := x4) (s := x5) (w := x2) (h := x3) RA1 hN d5 ⟨sz.1, sz.2.1⟩ sz.2.2 ⟨a81, a82⟩ ⟨t2, t3⟩ hn (fun k k0 k1 => by
      rw [ao1 2 k (by omega), ao 2 k (by omega)]
      exact ⟨(t4 k k0 k1).1, (t4 k k0 k1).2.2⟩) ok
    have fA2 : frx Fpt Mh A2 := fA1.tr (F2.w (fun c j h => by unfold Fty at h; unfold Fpt Hw; omega))
    have gB2 : frx Gpt Mm B2 := g0.tr (G2.w (fun c j h => by unfold Gty at h; unfold Gpt; omega))
    have z12 : A2 1 2 = 0 := by rw [F2 1 2 (by unfold Fty; omega), ao1 1 2 (by decide)]; exact a12
    refine rh2.l (rX1_print_75 hh _ _ _ _ _ _ _ _ _ _ ?_)
    rw [← hA1]
    refine ⟨fun z => by omega, fun _ => ?_⟩
    refine rh2.sl (vX1_print_171 hh K1 (LE0 rfl)) ?_
    refine rh2.r (rX32_print_69 hm _ _ _ _ _ _ _ _ _ ?_)
    rw [hn]
    refine ⟨fun z => by omega, fun _ => ?_⟩
    refine rh2.sr (vX32_print_141 hm K2 (LE0 rfl)) ?_
    refine rh2.l (rX1_print_174 hh _ _ _ _ _ ?_)
    rcases alt with ⟨e1, e2⟩ | ⟨e2, TY⟩
    · refine ⟨fun z => absurd e1 z, fun _ => ?_⟩
      refine rh1.of (rX32_print_144 hm _ _ _ _ _ _ _ _ ?_)
      rw [e1, ← hPost]
      exact ⟨fun _ => ⟨rfl, Rtp.use (Mh := Mh) (Mm := Mm) z12 (rh_set_s _ _ _ _), .inl ⟨fA2, gB2.st (by unfold Gpt; omega)⟩⟩, fun z => absurd e2 z⟩
    have y1 := TY.1
    have y2 := TY.2.1
    have y3 := TY.2.2.1
    have y4 := TY.2.2.2.1
    have y5 := TY.2.2.2.2
    refine ⟨fun _ => ?_, fun z => absurd (show r ≠ -104 by omega) z⟩
    have pb := szb sz.1 sz.2.1
    obtain ⟨NN, hNN⟩ : ∃ NN, x2 * x3 = NN := ⟨_, rfl⟩
    have pos : 0 < NN := by
      rw [← hNN]
      exact Int.mul_pos (by omega) (by omega)
    rw [hNN] at pb
    have RB2 : Rfm A2 B2 := RA1.k (fun c j c0 c1 => F2 c j (by unfold Fty; omega)) (fun c j c0 c1 => G2 c j (by unfold Gty; omega)) (G2 0 89 (by unfold Gty; omega))
    have e89 : B2 0 89 = N := by rw [G2 0 89 (by unfold Gty; omega)]; exact hN
    have fm : ∀ f, 0 ≤ f → f < N → (1 ≤ B2 66 f ∧ B2 66 f ≤ 24) ∧ (1 ≤ B2 65 f ∧ B2 65 f ≤ 24) := fun f f0 f1 => by
      obtain ⟨-, -, q3, q4, -⟩ := RB2.2.2 f f0 (by rw [e89]; exact f1)
      exact ⟨q4.2, q3.2⟩
    obtain ⟨X1, E1, w1, H1⟩ := m_white hm (x1 := x1) (x2 := x2) (x3 := x3) (x5 := x5) (x6 := x6) (x7 := x7) (N := NN) hNN ⟨by omega, by omega⟩ NN.toNat 0 B2 (by omega) (by decide) (fun q q0 q1 => by omega)
    obtain ⟨X2, E2, w2, H2⟩ := m_puts hm (B := B2) (x1 := x1) (x6 := x6) (x7 := x7) (N := N) (s := x5) (w := x2) (h := x3) (c := r) fm r1.2 d5 ⟨sz.1.2, sz.2.1.2⟩ sz.2.2 A2 y4 y2 y3 r.toNat 0 X1 (by omega) H1 (fun q q0 q1 => by
      rw [w1 q q0 (by rw [← hNN]; exact q1)]
      rfl)
    obtain ⟨A3, X3, K3, K4, rel, F3, H3⟩ := t_wear hh hm (w := x2) (h := x3) (N := NN) (sd := x6) (n := x7) hNN ⟨by omega, by omega⟩ d7 A2 X2 (by rw [F2 8 1 (by unfold Fty; omega)]; exact a81) (by rw [F2 8 2 (by unfold Fty; omega)]; exact a82) (fun q q0 q1 => by
      rw [← hNN] at q1
      rw [y5 q q0 q1, w2 q q0 q1]
      exact ⟨rfl, pst_b _⟩)
    have fA3 : frx Fpt Mh A3 := fA2.tr (F3.w (fun c j h => by unfold Fpt Hw; omega))
    have gX3 : frx Gpt Mm X3 := (gB2.tr (H2.w (fun c j h => by unfold Gpt Gw; omega))).tr (H3.w (fun c j h => by unfold Gpt Gw; omega))
    have hpg : 0 ≤ x1 ∧ x1 < 8 := by omega
    have z81 : A3 8 1 = x2 := by rw [F3 8 1 (by decide), F2 8 1 (by unfold Fty; omega)]; exact a81
    have z82 : A3 8 2 = x3 := by rw [F3 8 2 (by decide), F2 8 2 (by unfold Fty; omega)]; exact a82
    have GX : Rpg A3 X3 := G.fx fA3 gX3 (fun p a j p0 p1 hf => by unfold Fpt Hw Ftp at hf; omega) (fun a j hf => by unfold Gpt Gw at hf; omega)
    have LD := Laid.mk (q := x1) (a := x2) (b := x3) GX hpg frx.rf frx.rf ⟨z81, z82, by omega, by omega, by omega, by omega, by rw [hNN]; omega, by rw [hNN]; omega, by omega, fun j j0 j1 => by rw [hNN] at j1; exact rel j j0 j1⟩ (by omega)
    obtain ⟨A4, hA4⟩ : ∃ A4, A4 = m_lay A3 (251 + 39 * x1) 8 := ⟨_, rfl⟩
    obtain ⟨X4, hX4⟩ : ∃ X4, X4 = m_bec X3 x1 x2 x3 := ⟨_, rfl⟩
    have KL := c_lay hh (hs_pg hh hpg.1 hpg.2) (hs_sh hh) (show (8 : Int) ≠ 251 + 39 * x1 by omega) A3 (by rw [z81, z82, hNN]; omega) (by rw [z81, z82, hNN]; omega)
    have KB := c_bec hm hpg X3 (a := x2) (b := x3) (by rw [hNN]; omega) (by rw [hNN]; omega)
    rw [← hA4] at LD KL
    rw [← hX4] at LD KB
    obtain ⟨L1, ⟨L2, L3, L4, L5, L6⟩, L7, L8⟩ := LD
    have c4 : A4 202 3 = r := by rw [L7 202 3 (by unfold Hw Flay; omega), F3 202 3 (by decide)]; exact y1
    have KT := c_tell hh (hs_pg hh hpg.1 hpg.2) (by omega) A4 c4 y3
    obtain ⟨A5, hA5⟩ : ∃ A5, A5 = rh_cpy (rh_cpy (rh_set A4 (251 + 39 * x1) 16 r) 203 0 (251 + 39 * x1 + 37) 0 r) 204 0 (251 + 39 * x1 + 38) 0 (4 * r) := ⟨_, rfl⟩
    rw [← hA5] at KT
    have F5 : frx (fun c j => (c = 251 + 39 * x1 ∧ j = 16) ∨ c = 251 + 39 * x1 + 37 ∨ c = 251 + 39 * x1 + 38) A4 A5 := by
      rw [hA5]
      exact ((frx.rf.st (by omega)).cpy (fun j j0 j1 => by omega)).cpy (fun j j0 j1 => by omega)
    have k207 : X4 0 207 = r := by rw [L8 0 207 (by unfold Gw Glay; omega), H3 0 207 (by decide), H2 0 207 (by decide)]; exact y2
    obtain ⟨X5, hX5⟩ : ∃ X5, X5 = rh_set X4 157 x1 r := ⟨_, rfl⟩
    have q5 : ∀ a j, (63 ≤ a ∧ a ≤ 69) ∨ (163 ≤ a ∧ a ≤ 165) → X5 a j = B2 a j := fun a j ha => by rw [hX5, rh_set_a (by omega), L8 a j (by unfold Gw Glay; omega), H3 a j (by omega), H2 a j (by omega)]
    have k5 : X5 0 207 = r := by rw [hX5, rh_set_a (by decide)]; exact k207
    obtain ⟨X6, E6, v6, -, H6, -⟩ := m_made hm (p := x1) (s := x5) (N := N) (c := r) hpg r1.2 d5 y3 X5 k5 (fun i i0 i1 => by
      obtain ⟨l1, -, -, l4, l5⟩ := y4 i i0 i1
      rw [q5 165 i (by omega), q5 164 i (by omega)]
      have b1 := mulb (show 0 ≤ x5 by omega) d5.2 (show 0 ≤ B2 66 (B2 165 i) by have := fm _ l1.1 l1.2; omega) (fm _ l1.1 l1.2).1.2
      exact ⟨l1, by omega⟩) (fun f f0 f1 => by rw [q5 66 f (by omega), q5 65 f (by omega)]; exact fm f f0 f1) r.toNat 0 X5 (by omega) (by decide) frx.rf
    refine rh2.sl (vX1_print_191 hh K3 (LE0 rfl)) ?_
    refine rh2.l (rX1_print_194 hh _ _ _ ?_)
    refine ⟨⟨by omega, by omega⟩, ?_⟩
    refine rh2.sl (vX1_print_204 (hs_pg hh hpg.1 hpg.2) KL (LE0 rfl)) ?_
    refine rh2.l (rX1_print_207 hh _ _ _ ?_)
    refine ⟨⟨by omega, by omega⟩, ?_⟩
    refine rh2.sl (vX1_print_217 hh KT (LE0 rfl)) ?_
    refine rh2.l (rX1_print_220 hh _ _ ?_)
    refine rh1.of (rX32_print_144 hm _ _ _ _ _ _ _ _ ?_)
    refine ⟨fun z => by omega, fun _ => rh1.s E1 (rh1.s E2 ?_)⟩
    refine rh1.of (rX32_print_184 hm _ _ _ _ _ _ _ _ ?_)
    rw [H2 0 207 (by decide), y2]
    refine ⟨fun z => by omega, fun _ => ?_⟩
    refine rh1.s (eS.fx 2 (x := x2 * x3) rfl (by rw [hNN]; exact ⟨by omega, by omega⟩) rfl) ?_
    rw [hNN]
    refine rh1.s (vX32_print_217 hm K4 (LE0 rfl)) ?_
    refine rh1.of (rX32_print_220 hm _ _ _ _ _ ?_)
    refine rh1.s (vX32_print_224 hm KB (LE0 rfl)) ?_
    refine rh1.of (rX32_print_227 hm _ _ _ ?_)
    rw [k207, ← hX5]
    refine ⟨⟨by omega, by omega⟩, rh1.s E6 ?_⟩
    refine rh1.of (rX32_print_240 hm _ _ _ _ ?_)
    rw [H6 0 207 (by omega), k5, ← hPost]
    refine ⟨fun z => by omega, fun _ => ⟨rfl, Rtp.use (Mh := Mh) (Mm := Mm) ?_ (rh_set_s _ _ _ _), .inr ⟨x1, hpg, ?_, ⟨?_, ?_, ?_⟩, ⟨?_, ?_, fun i i0 i1 => ?_⟩, ?_, ?_⟩⟩⟩
    · rw [F5 1 2 (by omega), L7 1 2 (by unfold Hw Flay; omega), F3 1 2 (by decide)]; exact z12
    · exact L1.fx F5 ((frx.rf.st (F := fun c j => (c = 157 ∧ j = x1) ∨ (158 ≤ c ∧ c ≤ 162) ∨ (c = 0 ∧ j = 2)) (r := 157) (i := x1) (v := r) (by omega)).tr (by rw [← hX5]; exact (H6.w (fun c j h => by omega)).st (by omega))) (fun p a j p0 p1 hf => by omega) (fun a j hf => by omega)
    · rw [F5 _ _ (by omega)]; exact L2
    · rw [F5 _ _ (by omega)]; exact L4
    · rw [rh_set_a (by decide), H6 23 _ (by omega), hX5, rh_set_a (by decide)]; exact L5
    · rw [rh_set_a (by decide), H6 157 _ (by omega), hX5, rh_set_s, hA5, rh_cpy_a (by omega), rh_cpy_a (by omega), rh_set_s]
    · rw [rh_set_a (by decide), H6 157 _ (by omega), hX5, rh_set_s]; exact y3
    · rw [rh_set_a (by decide), H6 157 _ (by omega), hX5, rh_set_s] at i1
      obtain ⟨l1, l2, l3, l4, l5⟩ := y4 i i0 i1
      obtain ⟨u1, u2, u3, u4, u5⟩ := v6 i i0 i1
      have o203 : ∀ j, A4 203 j = A2 203 j := fun j => by rw [L7 203 j (by unfold Hw Flay; omega), F3 203 j (by omega)]
      have o204 : ∀ j, A4 204 j = A2 204 j := fun j => by rw [L7 204 j (by unfold Hw Flay; omega), F3 204 j (by omega)]
      have m37 : A5 (251 + 39 * x1 + 37) i = A2 203 i := by
        rw [hA5, rh_cpy_a (by omega), rh_cpy_v ⟨by omega, by omega⟩, rh_set_a (by omega), show 0 + (i - 0) = i by omega]
        exact o203 i
      have m38 : ∀ j, 0 ≤ j → j < 4 * r → A5 (251 + 39 * x1 + 38) j = A2 204 j := fun j j0 j1 => by
        rw [hA5, rh_cpy_v ⟨by omega, by omega⟩, rh_cpy_a (by omega), rh_set_a (by omega), show 0 + (j - 0) = j by omega]
        exact o204 j
      rw [rh_set_a (by decide), rh_set_a (by decide), rh_set_a (by decide), rh_set_a (by decide), rh_set_a (by decide), u1, u2, u3, u4, u5, m37, m38 _ (by omega) (by omega), m38 _ (by omega) (by omega), m38 _ (by omega) (by omega), m38 _ (by omega) (by omega), q5 64 _ (by omega), q5 163 _ (by omega), q5 164 _ (by omega), q5 165 _ (by omega), q5 65 _ (by omega), q5 66 _ (by omega)]
      exact ⟨l2, l3.1, l3.2.1, l3.2.2.1, l3.2.2.2⟩
    · exact ((fA3.w (fun c j h => .inl h)).tr (L7.w (fun c j h => h.elim (fun a => .inl (.inl a)) (fun a => .inr (.inl a))))).tr (F5.w (fun c j h => by unfold Flay; omega))
    · have s5 : frx (fun c j => Gpt c j ∨ Glay x1 c j ∨ ((158 ≤ c ∧ c ≤ 162) ∧ 250 * x1 ≤ j ∧ j < 250 * x1 + 250)) Mm X5 := by
        rw [hX5]
        exact ((gX3.w (fun c j h => .inl h)).tr (L8.w (fun c j h => h.elim (fun a => .inl (.inl a)) (fun a => .inr (.inl a))))).st (by unfold Glay; omega)
      exact (s5.tr (H6.w (fun c j h => .inr (.inr h)))).st (.inl (by unfold Gpt; omega))
  have key : ∀ (u : Nat) (k : Int), k + u = n → 0 ≤ k → (∀ j, 0 ≤ j → j < k → M0 1 j = 10 ∨ M0 1 j = 32 ∨ ((33 ≤ M0 1 j ∧ M0 1 j ≤ 126) ∧ fwd (Efm M0 x4 (M0 1 j)) N.toNat 0 ≠ -1)) → rh2 wh YX1_print 3 75 [(0, 2, 0), (1, 0, x1), (2, 0, x2), (3, 0, x3), (4, 0, x4), (5, 0, x5), (6, 0, x6), (7, 0, x7), (8, 0, n), (9, 0, k)] [] A0 wm YX32_print 3 69 [(0, 2, 0), (1, 0, x1), (2, 0, x2), (3, 0, x3), (4, 0, x4), (5, 0, x5), (6, 0, x6), (7, 0, x7), (8, 0, k)] [] M0 Post := by
    intro u
    induction u with
    | zero =>
      intro k hk k0 ok
      have e : k = n := by omega
      rw [e] at ok ⊢
      exact rest ok
    | succ u ih =>
      intro k hk k0 ok
      obtain ⟨v1, v2, v3⟩ := t4 k k0 (by omega)
      have bx := by_x v1 v3
      have bs := by_s v1 v3
      have eA : A0 2 k = Mh 2 k := ao 2 k (by omega)
      have nx : (M0 1 k = 10 ∨ M0 1 k = 32 ∨ ((33 ≤ M0 1 k ∧ M0 1 k ≤ 126) ∧ fwd (Efm M0 x4 (M0 1 k)) N.toNat 0 ≠ -1)) → rh2 wh YX1_print 3 75 [(0, 2, 0), (1, 0, x1), (2, 0, x2), (3, 0, x3), (4, 0, x4), (5, 0, x5), (6, 0, x6), (7, 0, x7), (8, 0, n), (9, 0, k + 1)] [] A0 wm YX32_print 3 69 [(0, 2, 0), (1, 0, x1), (2, 0, x2), (3, 0, x3), (4, 0, x4), (5, 0, x5), (6, 0, x6), (7, 0, x7), (8, 0, k + 1)] [] M0 Post := fun g => ih (k + 1) (by omega) (by omega) (fun j j0 j1 => by
        by_cases e : j = k
        · rw [e]; exact g
        · exact ok j j0 (by omega))
      refine rh2.l (rX1_print_75 hh _ _ _ _ _ _ _ _ _ _ ?_)
      rw [eA]
      refine ⟨fun _ => ⟨⟨by omega, by omega⟩, fun nb => ?_, fun bl => ⟨⟨by omega, by omega⟩, ?_⟩⟩, fun z => by omega⟩
      · have nb' : ¬ ((M0 1 k = 10) ∨ (M0 1 k = 32)) := fun z => z.elim (fun y => nb.1 (bx.1.mpr y)) (fun y => nb.2 (bx.2.mpr y))
        refine ⟨fun sg => ?_, fun sg => ⟨⟨by omega, by omega⟩, ?_⟩⟩
        · have sm := bs.1.mp sg
          have eAB := bs.2 sm
          rw [eAB]
          have KH := c_formOf hh RA (face := x4) (c := M0 1 k)
          have KM := c_leastForm hm (B := M0) (by rw [hN]; exact r1) (face := x4) (c := M0 1 k)
          rw [hN] at KH KM
          refine rh2.sl (vX1_print_124 hh KH (LE0 rfl)) ?_
          refine rh2.r (rX32_print_69 hm _ _ _ _ _ _ _ _ _ ?_)
          rw [hn]
          refine ⟨fun _ => ⟨⟨by omega, by omega⟩, fun _ => ⟨⟨by omega, by omega⟩, fun _ => ⟨⟨by omega, by omega⟩, ?_⟩, fun z => absurd sm z⟩, fun z => absurd nb' z⟩, fun z => by omega⟩
          refine rh2.sr (vX32_print_114 hm KM (LE0 rfl)) ?_
          refine rh2.l (rX1_print_127 hh _ _ _ _ _ _ _ _ _ _ _ ?_)
          refine ⟨fun f => ⟨⟨by omega, by omega⟩, ?_⟩, fun f => ⟨⟨by omega, by omega⟩, ?_⟩⟩
          · refine rh1.of (rX32_print_117 hm _ _ _ _ _ _ _ _ _ _ ?_)
            exact ⟨fun _ => ⟨⟨by omega, by omega⟩, bad _⟩, fun z => absurd f z⟩
          · refine rh2.r (rX32_print_117 hm _ _ _ _ _ _ _ _ _ _ ?_)
            exact ⟨fun z => absurd z f, fun _ => ⟨⟨by omega, by omega⟩, nx (.inr (.inr ⟨sm, f⟩))⟩⟩
        · have sm : ¬ (33 ≤ M0 1 k ∧ M0 1 k ≤ 126) := fun z => sg (bs.1.mpr z)
          refine rh1.of (rX32_print_69 hm _ _ _ _ _ _ _ _ _ ?_)
          rw [hn]
          exact ⟨fun _ => ⟨⟨by omega, by omega⟩, fun _ => ⟨⟨by omega, by omega⟩, fun z => absurd z sm, fun _ => ⟨⟨by omega, by omega⟩, bad _⟩⟩, fun z => absurd nb' z⟩, fun z => by omega⟩
      · have bl' : (M0 1 k = 10) ∨ (M0 1 k = 32) := by
          by_cases z : M0 1 k = 10
          · exact .inl z
          · refine .inr (bx.2.mp (Classical.byContradiction (fun y => bl ⟨fun a => z (bx.1.mp a), y⟩)))
        refine rh2.r (rX32_print_69 hm _ _ _ _ _ _ _ _ _ ?_)
        rw [hn]
        exact ⟨fun _ => ⟨⟨by omega, by omega⟩, fun z => absurd bl' z, fun _ => ⟨⟨by omega, by omega⟩, nx (bl'.elim .inl (fun a => .inr (.inl a)))⟩⟩, fun z => by omega⟩
  exact key n.toNat 0 (by omega) (by decide) (fun j j0 j1 => by omega)
end PrintO
