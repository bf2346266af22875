/-! ===== LAYER 2: print ===== -/
section Print
variable {wh wm : rhW}
theorem Rfm.k {A B A0 B0 : rhM} (R : Rfm A0 B0) (f : ∀ c j, 41 ≤ c → c ≤ 48 → A c j = A0 c j) (g : ∀ c j, 63 ≤ c → c ≤ 69 → B c j = B0 c j) (g9 : B 0 89 = B0 0 89) : Rfm A B := by
  obtain ⟨r1, r2, r3⟩ := R
  unfold Rfm
  rw [f 41 0 (by decide) (by decide), g9]
  refine ⟨r1, r2, fun k k0 k1 => ?_⟩
  have H := r3 k k0 k1
  unfold FmR at H ⊢
  have f' : ∀ c, 41 ≤ c → c ≤ 48 → A c = A0 c := fun c c0 c1 => funext (fun j => f c j c0 c1)
  have g' : ∀ c, 63 ≤ c → c ≤ 69 → B c = B0 c := fun c c0 c1 => funext (fun j => g c j c0 c1)
  rw [f' 42 (by decide) (by decide), f' 43 (by decide) (by decide), f' 44 (by decide) (by decide), f' 45 (by decide) (by decide), f' 46 (by decide) (by decide), f' 47 (by decide) (by decide), f' 48 (by decide) (by decide), g' 63 (by decide) (by decide), g' 64 (by decide) (by decide), g' 65 (by decide) (by decide), g' 66 (by decide) (by decide), g' 67 (by decide) (by decide), g' 68 (by decide) (by decide), g' 69 (by decide) (by decide)]
  exact H
theorem by_x {x c : Int} (h : rh_and x 255 = c) (hx : -128 ≤ x ∧ x ≤ 127) : (x = 10 ↔ c = 10) ∧ (x = 32 ↔ c = 32) := by
  rw [by_e hx] at h
  split at h <;> omega
theorem hgt_f {B B' : rhM} {face : Int} (e1 : B' 63 = B 63) (e2 : B' 66 = B 66) (e3 : B' 67 = B 67) : ∀ (n : Nat) (k c : Int), hgt B' face n k c = hgt B face n k c
  | 0, k, c => rfl
  | n + 1, k, c => by
    simp only [hgt]
    rw [e1, e2, e3]
    exact hgt_f e1 e2 e3 n (k + 1) _
/-- setting the type: house and model, letter by letter -/
theorem t_setp (hh : rh_hs wh) (hm : rh_ms wm) {A0 B0 : rhM} {n N face s w h hi : Int} (R : Rfm A0 B0) (hN : B0 0 89 = N) (hs : 1 ≤ s ∧ s ≤ 4) (hw : (1 ≤ w ∧ w ≤ 128) ∧ (1 ≤ h ∧ h ≤ 96)) (hM : w * h ≤ 6144) (hhi : hi = hgt B0 face N.toNat 0 0) (a8 : A0 8 1 = w ∧ A0 8 2 = h) (hn : 0 ≤ n ∧ n ≤ 4096) (b2 : B0 0 2 = n)
    (tp : ∀ k, 0 ≤ k → k < n → rh_and (A0 2 k) 255 = B0 1 k ∧ -128 ≤ A0 2 k ∧ A0 2 k ≤ 127) (ok : ∀ k, 0 ≤ k → k < n → B0 1 k = 10 ∨ B0 1 k = 32 ∨ ((33 ≤ B0 1 k ∧ B0 1 k ≤ 126) ∧ fwd (Efm B0 face (B0 1 k)) N.toNat 0 ≠ -1)) :
    ∀ (u : Nat) (k x bt c : Int) (A B : rhM), k + u = n → 0 ≤ k → (0 ≤ x ∧ x ≤ 200 + 12 * k) → (2 * s + s * hi ≤ bt ∧ bt ≤ 600 + 492 * k) → Typ A B N s w h c → frx Fty A0 A → frx Gty B0 B → ∃ r r2 A' B', (∀ P : Int → rhM → Prop, P r A' → rh1 wh YX23_print 2 44 [(0, 2, 202), (1, 2, 1), (2, 0, n), (3, 2, 41), (4, 0, face), (5, 0, s), (6, 0, hi), (7, 0, x), (8, 0, bt), (9, 0, k)] [] A P) ∧ (∀ P : Int → rhM → Prop, P r2 B' → rh1 wm YX32_setType 2 33 [(0, 2, 0), (1, 0, w), (2, 0, h), (3, 0, face), (4, 0, s), (5, 0, hi), (6, 0, x), (7, 0, bt), (8, 0, k)] [] B P) ∧ ((r = -104 ∧ r2 = 0) ∨ (r2 = 1 ∧ Typ A' B' N s w h r)) ∧ frx Fty A0 A' ∧ frx Gty B0 B' := by
  have r1 := R.2.1
  rw [hN] at r1
  have hb := hgt_b (B := B0) (face := face) N.toNat 0 0 (fun j j0 j1 => by
    obtain ⟨-, -, -, f4, f5, -⟩ := R.2.2 j j0 (by omega)
    omega) (by decide)
  rw [← hhi] at hb
  have hb3 := hb.2.2
  have hm1 := mulb (show 0 ≤ s by omega) hs.2 (show 0 ≤ hi + 3 by omega) (show hi + 3 ≤ 123 by omega)
  have hm2 := mulb (show 0 ≤ s by omega) hs.2 (show 0 ≤ hi by omega) (show hi ≤ 120 by omega)
  intro u
  induction u with
  | zero =>
    intro k x bt c A B hk k0 hx hbt T fA fB
    refine ⟨c, 1, A, B, fun P HP => ?_, fun P HP => ?_, .inr ⟨rfl, T⟩, fA, fB⟩
    · refine rh1.of (rX23_print_44 hh _ _ _ _ _ _ _ _ ?_)
      rw [T.1]
      exact ⟨fun z => by omega, fun _ => HP⟩
    · refine rh1.of (rX32_setType_33 hm _ _ _ _ _ _ _ _ _ ?_)
      rw [fB 0 2 (by unfold Gty; omega), b2]
      exact ⟨fun z => by omega, fun _ => HP⟩
  | succ u ih =>
    intro k x bt c A B hk k0 hx hbt T fA fB
    obtain ⟨t1, t2⟩ := tp k k0 (by omega)
    have bx := by_x t1 t2
    have bs := by_s t1 t2
    have eA2 : A 2 k = A0 2 k := fA 2 k (by unfold Fty; omega)
    have eB1 : B 1 k = B0 1 k := fB 1 k (by unfold Gty; omega)
    have eB2 : B 0 2 = n := by rw [fB 0 2 (by unfold Gty; omega)]; exact b2
    by_cases c10 : B0 1 k = 10
    · have d10 := bx.1.mpr c10
      obtain ⟨r, r2, A', B', E1, E2, E3⟩ := ih (k + 1) (2 * s) (bt + s * (hi + 3)) c A B (by omega) (by omega) ⟨by omega, by omega⟩ ⟨by omega, by omega⟩ T fA fB
      refine ⟨r, r2, A', B', fun P HP => ?_, fun P HP => ?_, E3⟩
      · refine rh1.of (rX23_print_44 hh _ _ _ _ _ _ _ _ ?_)
        rw [eA2]
        refine ⟨fun _ => ⟨⟨by omega, by omega⟩, fun _ => ⟨fun z => absurd d10 z, fun _ => ?_⟩, fun z => absurd (.inr d10) z⟩, fun z => by omega⟩
        (intro zq hzq; replace hzq := hzq.symm; subst hzq)
        rw [rh_if_t (show (1 : Int) ≠ 0 by decide), rh_if_t (show (1 : Int) ≠ 0 by decide)]
        refine ⟨fun _ => ⟨by omega, by omega⟩, fun _ => ⟨by omega, by omega⟩, fun z => by omega, fun _ => ⟨fun z => absurd rfl z, fun _ => ⟨⟨by omega, by omega⟩, E1 P HP⟩⟩⟩
      · refine rh1.of (rX32_setType_33 hm _ _ _ _ _ _ _ _ _ ?_)
        rw [eB2, eB1]
        exact ⟨fun _ => ⟨⟨by omega, by omega⟩, fun _ => ⟨⟨by omega, by omega⟩, ⟨by omega, by omega⟩, ⟨by omega, by omega⟩, E2 P HP⟩, fun z => absurd c10 z⟩, fun z => by omega⟩
    by_cases c32 : B0 1 k = 32
    · have d32 := bx.2.mpr c32
      obtain ⟨r, r2, A', B', E1, E2, E3⟩ := ih (k + 1) (x + 3 * s) bt c A B (by omega) (by omega) ⟨by omega, by omega⟩ ⟨by omega, by omega⟩ T fA fB
      refine ⟨r, r2, A', B', fun P HP => ?_, fun P HP => ?_, E3⟩
      · refine rh1.of (rX23_print_44 hh _ _ _ _ _ _ _ _ ?_)
        rw [eA2]
        refine ⟨fun _ => ⟨⟨by omega, by omega⟩, fun _ => ⟨fun _ => ⟨fun z => absurd rfl z, fun z => absurd rfl z, fun z => absurd rfl z, ?_⟩, fun z => absurd (show A0 2 k ≠ 10 by omega) z⟩, fun z => absurd (.inl d32) z⟩, fun z => by omega⟩
        rw [rh_if_f (fun z => z.1 rfl)]
        (intro zq hzq; replace hzq := hzq.symm; subst hzq)
        rw [rh_if_f (show ¬ (0 : Int) ≠ 0 by decide), rh_if_f (show ¬ (0 : Int) ≠ 0 by decide)]
        refine ⟨fun z => absurd rfl z, fun z => absurd rfl z, fun _ => ?_, fun z => absurd d32 z⟩
        (intro zq hzq; replace hzq := hzq.symm; subst hzq)
        exact ⟨⟨by omega, by omega⟩, ⟨by omega, by omega⟩, E1 P HP⟩
      · refine rh1.of (rX32_setType_33 hm _ _ _ _ _ _ _ _ _ ?_)
        rw [eB2, eB1]
        exact ⟨fun _ => ⟨⟨by omega, by omega⟩, fun z => absurd z c10, fun _ => ⟨fun _ => ⟨⟨by omega, by omega⟩, ⟨by omega, by omega⟩, E2 P HP⟩, fun z => absurd c32 z⟩⟩, fun z => by omega⟩
    have sg : (33 ≤ B0 1 k ∧ B0 1 k ≤ 126) ∧ fwd (Efm B0 face (B0 1 k)) N.toNat 0 ≠ -1 := by
      rcases ok k k0 (by omega) with z | z | z
      · exact absurd z c10
      · exact absurd z c32
      · exact z
    have eAB : A0 2 k = B0 1 k := bs.2 sg.1
    obtain ⟨f, hf⟩ : ∃ f, f = fwd (Efm B0 face (B0 1 k)) N.toNat 0 := ⟨_, rfl⟩
    have fb := (fwd_b (E := Efm B0 face (B0 1 k)) N.toNat 0).resolve_left sg.2
    rw [← hf] at fb
    have fN : 0 ≤ f ∧ f < N := by omega
    have RA : Rfm A B := R.k (fun c j c0 c1 => fA c j (by unfold Fty; omega)) (fun c j c0 c1 => fB c j (by unfold Gty; omega)) (fB 0 89 (by unfold Gty; omega))
    have g' : ∀ c, 63 ≤ c → c ≤ 69 → B c = B0 c := fun c c0 c1 => funext (fun j => fB c j (by unfold Gty; omega))
    have eE : Efm B face (B0 1 k) = Efm B0 face (B0 1 k) := by
      unfold Efm
      rw [g' 63 (by decide) (by decide), g' 64 (by decide) (by decide)]
    have e89 : B 0 89 = N := by rw [fB 0 89 (by unfold Gty; omega)]; exact hN
    have KH := c_formOf hh RA (face := face) (c := B0 1 k)
    have KM := c_leastForm hm (B := B) (by rw [e89]; exact r1) (face := face) (c := B0 1 k)
    rw [e89, eE, ← hf] at KH KM
    have Fm := RA.2.2 f fN.1 (by rw [e89]; exact fN.2)
    have Fm0 := Fm
    obtain ⟨f1, f2, f3, f4, f5, -, -⟩ := Fm
    have l64 : B 64 f = B0 1 k := by rw [g' 64 (by decide) (by decide)]; exact fb.2.2.2
    have l63 : B 63 f = face := by rw [g' 63 (by decide) (by decide)]; exact fb.2.2.1
    have hif := hb3 f fN.1 (by omega) fb.2.2.1
    rw [← g' 66 (by decide) (by decide), ← g' 67 (by decide) (by decide)] at hif
    obtain ⟨W, hW⟩ : ∃ W, W = s * B 65 f := ⟨_, rfl⟩
    obtain ⟨H, hH⟩ : ∃ H, H = s * B 66 f := ⟨_, rfl⟩
    obtain ⟨Q, hQ⟩ : ∃ Q, Q = s * B 67 f := ⟨_, rfl⟩
    have bW := mulb (show 0 ≤ s by omega) hs.2 (show 0 ≤ B 65 f by omega) f3.2.2
    have bH := mulb (show 0 ≤ s by omega) hs.2 (show 0 ≤ B 66 f by omega) f4.2.2
    have bQ := mulb (show 0 ≤ s by omega) hs.2 (show 0 ≤ B 67 f by omega) f5.2.2
    have bS := Int.mul_le_mul_of_nonneg_left hif (show 0 ≤ s by omega)
    rw [Int.mul_add] at bS
    rw [← hW] at bW
    rw [← hH] at bH bS
    rw [← hQ] at bQ bS
    obtain ⟨x', hx'⟩ : ∃ x', x' = rh_if (w - s < x + W) (2 * s) x := ⟨_, rfl⟩
    obtain ⟨bt', hbt'⟩ : ∃ b, b = rh_if (w - s < x + W) (bt + s * (hi + 3)) bt := ⟨_, rfl⟩
    have xb : 0 ≤ x' ∧ x' ≤ 200 + 12 * k := by
      rw [hx']
      by_cases q : w - s < x + W
      · rw [rh_if_t q]; omega
      · rw [rh_if_f q]; omega
    have btb : 2 * s + s * hi ≤ bt' ∧ bt' ≤ 600 + 492 * (k + 1) := by
      rw [hbt']
      by_cases q : w - s < x + W
      · rw [rh_if_t q]; omega
      · rw [rh_if_f q]; omega
    have tc := T.2.2.1
    -- the house up to the test
    have goH : ∀ P : Int → rhM → Prop, (((h - s < bt') ∨ ((w - s < x' + W) ∨ (c = 250))) → P (-104) A) → (¬ ((h - s < bt') ∨ ((w - s < x' + W) ∨ (c = 250))) → rh1 wh YX23_print 2 279 [(0, 2, 202), (1, 2, 1), (2, 0, n), (3, 2, 41), (4, 0, face), (5, 0, s), (6, 0, hi), (7, 0, x'), (8, 0, bt'), (9, 0, k), (10, 0, B0 1 k), (13, 0, W), (14, 0, H), (15, 0, bt' - Q)] [(3, bt' - Q - H), (0, x'), (0, s), (0, f), (2, 41), (2, 202)] A P) → rh1 wh YX23_print 2 44 [(0, 2, 202), (1, 2, 1), (2, 0, n), (3, 2, 41), (4, 0, face), (5, 0, s), (6, 0, hi), (7, 0, x), (8, 0, bt), (9, 0, k)] [] A P := fun P H1 H2 => by
      refine rh1.of (rX23_print_44 hh _ _ _ _ _ _ _ _ ?_)
      rw [eA2]
      refine ⟨fun _ => ⟨⟨by omega, by omega⟩, fun z => by omega, fun _ => ?_⟩, fun z => by omega⟩
      rw [eAB]
      refine rh1.s (vX23_print_82 hh KH (LE0 rfl)) ?_
      refine rh1.of (rX23_print_85 hh _ _ _ _ _ _ _ _ _ _ ?_)
      rw [f3.1, f4.1, f5.1, ← hW, ← hH, ← hQ, fA 8 1 (by unfold Fty; omega), fA 8 2 (by unfold Fty; omega), a8.1, a8.2, T.1]
      refine ⟨fun _ => ⟨fun _ => ⟨by omega, by omega⟩, fun _ => ⟨by omega, by omega⟩, fun _ => ⟨by omega, by omega⟩, ?_⟩, fun z => absurd c10 z⟩
      intro b hb'
      have eb1 : rh_if (b ≠ 0) (2 * s) x = x' := by
        rw [hx', hb']
        by_cases q : w - s < x + W
        · rw [rh_if_t (show f ≠ -1 ∧ w - s < x + W from ⟨by omega, q⟩), rh_if_t (show (1 : Int) ≠ 0 by decide), rh_if_t q]
        · rw [rh_if_f (show ¬ (f ≠ -1 ∧ w - s < x + W) from fun z => q z.2), rh_if_f (show ¬ (0 : Int) ≠ 0 by decide), rh_if_f q]
      have eb2 : rh_if (b ≠ 0) (bt + s * (hi + 3)) bt = bt' := by
        rw [hbt', hb']
        by_cases q : w - s < x + W
        · rw [rh_if_t (show f ≠ -1 ∧ w - s < x + W from ⟨by omega, q⟩), rh_if_t (show (1 : Int) ≠ 0 by decide), rh_if_t q]
        · rw [rh_if_f (show ¬ (f ≠ -1 ∧ w - s < x + W) from fun z => q z.2), rh_if_f (show ¬ (0 : Int) ≠ 0 by decide), rh_if_f q]
      rw [eb1, eb2]
      refine ⟨fun _ => ⟨by omega, by omega⟩, fun _ => ⟨by omega, by omega⟩, fun z => absurd z c32, fun _ => ⟨fun _ => ⟨⟨by omega, by omega⟩, ⟨by omega, by omega⟩, ⟨by omega, by omega⟩, ⟨by omega, by omega⟩, ⟨by omega, by omega⟩, ?_⟩, fun z => absurd (show f ≠ -1 by omega) z⟩⟩
      (intro zq hzq; replace hzq := hzq.symm; subst hzq)
      exact ⟨⟨by omega, by omega⟩, ⟨by omega, by omega⟩, fun _ => ⟨by omega, by omega⟩, fun _ => ⟨by omega, by omega⟩, H1, H2⟩
    have goM : ∀ P : Int → rhM → Prop, (((w - s < x' + W) ∨ ((h - s < bt') ∨ (c = 250))) → P 0 B) → (¬ ((w - s < x' + W) ∨ ((h - s < bt') ∨ (c = 250))) → rh1 wm YX32_setType 2 33 [(0, 2, 0), (1, 0, w), (2, 0, h), (3, 0, face), (4, 0, s), (5, 0, hi), (6, 0, x' + s * (B 65 f + 1)), (7, 0, bt'), (8, 0, k + 1)] [] (rh_set (rh_set (rh_set (rh_set B 163 c x') 164 c (bt' - Q)) 165 c f) 0 207 (c + 1)) P) → rh1 wm YX32_setType 2 33 [(0, 2, 0), (1, 0, w), (2, 0, h), (3, 0, face), (4, 0, s), (5, 0, hi), (6, 0, x), (7, 0, bt), (8, 0, k)] [] B P := fun P H1 H2 => by
      have s1 : s * (B 65 f + 1) = W + s := by rw [Int.mul_add, Int.mul_one, ← hW]
      refine rh1.of (rX32_setType_33 hm _ _ _ _ _ _ _ _ _ ?_)
      rw [eB2, eB1]
      refine ⟨fun _ => ⟨⟨by omega, by omega⟩, fun z => absurd z c10, fun _ => ⟨fun z => absurd z c32, fun _ => ?_⟩⟩, fun z => by omega⟩
      refine rh1.s (vX32_setType_102 hm KM (LE0 rfl)) ?_
      refine rh1.of (rX32_setType_105 hm _ _ _ _ _ _ _ _ _ _ ?_)
      rw [← hW, ← hx', ← hbt', T.2.1]
      refine ⟨⟨by omega, by omega⟩, ⟨by omega, by omega⟩, ⟨by omega, by omega⟩, fun _ => ⟨by omega, by omega⟩, fun _ => ⟨by omega, by omega⟩, ⟨by omega, by omega⟩, ⟨by omega, by omega⟩, ⟨by omega, by omega⟩, fun _ => ⟨by omega, by omega⟩, H1, fun z => ?_⟩
      (intro zq hzq; replace hzq := hzq.symm; subst hzq)
      refine ⟨⟨by omega, by omega⟩, ?_⟩
      (intro zq hzq; replace hzq := hzq.symm; subst hzq)
      refine ⟨⟨by omega, by omega⟩, ?_⟩
      rw [rh_set_a (a := 67) (by decide), ← hQ, rh_set_a (a := 0) (by decide), T.2.1]
      (intro zq hzq; replace hzq := hzq.symm; subst hzq)
      refine ⟨⟨by omega, by omega⟩, ⟨by omega, by omega⟩, ?_⟩
      (intro zq hzq; replace hzq := hzq.symm; subst hzq)
      rw [rh_set_a (a := 0) (by decide), rh_set_a (a := 0) (by decide), T.2.1]
      refine ⟨⟨by omega, by omega⟩, ?_⟩
      (intro zq hzq; replace hzq := hzq.symm; subst hzq)
      rw [rh_set_a (a := 0) (by decide), rh_set_a (a := 0) (by decide), rh_set_a (a := 0) (by decide), T.2.1]
      refine ⟨⟨by omega, by omega⟩, ?_⟩
      (intro zq hzq; replace hzq := hzq.symm; subst hzq)
      refine ⟨⟨by omega, by omega⟩, ?_⟩
      rw [rh_set_a (a := 65) (by decide), rh_set_a (a := 65) (by decide), rh_set_a (a := 65) (by decide), rh_set_a (a := 65) (by decide), s1]
      (intro zq hzq; replace hzq := hzq.symm; subst hzq)
      refine ⟨⟨by omega, by omega⟩, ⟨by omega, by omega⟩, ?_⟩
      have := H2 z
      rwa [s1] at this
    by_cases full : (h - s < bt') ∨ ((w - s < x' + W) ∨ (c = 250))
    · refine ⟨-104, 0, A, B, fun P HP => goH P (fun _ => HP) (fun z => absurd full z), fun P HP => goM P (fun _ => HP) (fun z => absurd full (fun y => z (by omega))), .inl ⟨rfl, rfl⟩, fA, fB⟩
    · obtain ⟨A1, A2, B', K1, K2, hB', T', F2, G2⟩ := t_letter hh (A := A) (B := B) (N := N) (s := s) (w := w) (h := h) (c := c) (f := f) (x := x') (e := bt' - Q) Fm0 r1.2 fN hs ⟨hw.1.2, hw.2.2⟩ hM T (by omega) (by rw [← hW]; exact ⟨by omega, by omega⟩) (by rw [← hH]; exact ⟨by omega, by omega⟩) (by rw [fA 8 1 (by unfold Fty; omega)]; exact a8.1)
      rw [← hH] at K1 K2
      rw [← hW, l64] at K2
      have s1 : s * (B 65 f + 1) = W + s := by rw [Int.mul_add, Int.mul_one, ← hW]
      obtain ⟨r, r2, A3, B3, E1, E2, E3⟩ := ih (k + 1) (x' + (W + s)) bt' (c + 1) A2 B' (by omega) (by omega) ⟨by omega, by omega⟩ ⟨by omega, by omega⟩ T' (fA.tr F2) (fB.tr G2)
      refine ⟨r, r2, A3, B3, fun P HP => goH P (fun z => absurd z full) (fun _ => ?_), fun P HP => goM P (fun z => absurd (by omega) full) (fun _ => ?_), E3⟩
      · refine rh1.s (eS.fx 0 (x := bt' - Q - H) rfl ⟨by omega, by omega⟩ rfl) ?_
        refine rh1.s (vX23_print_279 hh K1 (LE0 rfl)) ?_
        refine rh1.of (rX23_print_282 hh _ _ _ _ _ _ _ _ _ _ _ _ ?_)
        refine rh1.s (eS.fx 2 (x := bt' - Q - H) rfl ⟨by omega, by omega⟩ rfl) ?_
        refine rh1.s (vX23_print_296 hh K2 (LE0 rfl)) ?_
        refine rh1.of (rX23_print_299 hh _ _ _ _ _ _ _ _ _ ?_)
        exact ⟨⟨by omega, by omega⟩, ⟨by omega, by omega⟩, E1 P HP⟩
      · rw [← hB', s1]
        exact E2 P HP
end Print
