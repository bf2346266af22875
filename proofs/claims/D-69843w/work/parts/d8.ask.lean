/-! ===== LAYER 2: documents: the words asked for ===== -/
section Ask
variable {wh wm : rhW}
theorem hs_by101 (hh : rh_hs wh) : rh_ar wh 101 .byte 144 := rh_hs_ar hh 101 (by decide) rfl
theorem c_set100 (hh : rh_hs wh) {g f n : Int} (hg : 0 ≤ g ∧ g < 12) (hn : 0 ≤ n ∧ n ≤ 12) (hf : 0 ≤ f ∧ f + n ≤ 4096) (M : rhM) : eC wh YX19_set 1 [(2, 100), (0, g), (2, 2), (0, f), (0, n)] M 0 (rh_set (rh_cpy M 2 f 101 (12 * g) n) 102 g n) := by
  refine eC.of1 (rC1.of (by decide) (LE0 rfl) ?_)
  refine rh1.of (rX19_set_0 hh _ _ _ _ _ _ _ _ (hs_rw100 hh) (hs_by7 hh) ?_)
  refine rh1.s (vX19_set_12 (ty := .byte) (tt := 1) (n0 := 4096) (n1 := 144) rfl rfl rfl (hs_by hh).1 (hs_by101 hh) rfl rfl rfl (by omega) (by omega) (by omega) (by omega) (by omega) (by decide) (by decide) (LE0 rfl)) ?_
  refine rh1.of (rX19_set_15 hh _ _ _ _ _ (hs_rw100 hh) ?_)
  rw [i2b_e ⟨by omega, by omega⟩]
  exact ⟨⟨by omega, by omega⟩, rfl, rfl⟩
/-- a word asked for; the words asked for; while they are read -/
def Aw (A B : rhM) (v : Int → Int) (k i : Int) : Prop := A 102 i = B 71 i ∧ (1 ≤ B 71 i ∧ B 71 i ≤ 12) ∧ (0 ≤ B 70 i ∧ B 70 i + B 71 i ≤ k) ∧ ∀ t, 0 ≤ t → t < B 71 i → A 101 (12 * i + t) = v (B 70 i + t) ∧ 33 ≤ v (B 70 i + t) ∧ v (B 70 i + t) ≤ 126
def Asg (A B : rhM) (v : Int → Int) (k b g : Int) : Prop := A 98 4 = g ∧ (0 ≤ g ∧ g ≤ 12) ∧ (0 ≤ b ∧ b ≤ k ∧ k - b ≤ 12) ∧ (b < k → g < 12) ∧ (B 0 99 = rh_if (b < k) (g + 1) g) ∧ (b < k → B 70 g = b ∧ B 71 g = k - b) ∧ (∀ t, b ≤ t → t < k → 33 ≤ v t ∧ v t ≤ 126) ∧ ∀ i, 0 ≤ i → i < g → Aw A B v k i
def Fas (c j : Int) : Prop := (c = 98 ∧ j = 4) ∨ (c = 1 ∧ j = 3) ∨ c = 101 ∨ c = 102
theorem Aw.fx {A B A' B' : rhM} {v : Int → Int} {k k' i : Int} (h : Aw A B v k i) (hk : k ≤ k') (a1 : A' 102 i = A 102 i) (a2 : ∀ t, 0 ≤ t → t < 12 → A' 101 (12 * i + t) = A 101 (12 * i + t)) (b1 : B' 70 i = B 70 i) (b2 : B' 71 i = B 71 i) : Aw A' B' v k' i := by
  obtain ⟨h1, h2, h3, h4⟩ := h
  unfold Aw
  rw [a1, b1, b2]
  refine ⟨h1, h2, by omega, fun t t0 t1 => ?_⟩
  rw [a2 t t0 (by omega)]
  exact h4 t t0 t1
/-- the house can only say no -/
theorem h_doom (hh : rh_hs wh) {n : Int} (hn : 0 ≤ n ∧ n ≤ 4096) (A : rhM) (P : Int → rhM → Prop) (HP : P 0 A) : ∀ (u : Nat) (k b : Int), k + u = n → 0 ≤ b → b < k → (A 98 4 = 12 ∨ 12 < k - b) → rh1 wh YX21_ask 2 15 [(0, 2, 98), (1, 2, 1), (2, 0, n), (3, 0, b), (4, 0, k)] [] A P := by
  have last : ∀ (k b y : Int), 0 ≤ b → b < k → k ≤ n → (A 98 4 = 12 ∨ 12 < k - b) → (y = 10 ∨ y = 32) → y = rh_if (k < n) (A 2 k) 32 → rh1 wh YX21_ask 2 15 [(0, 2, 98), (1, 2, 1), (2, 0, n), (3, 0, b), (4, 0, k)] [] A P := by
    intro k b y b0 b1 kn d hy e
    refine rh1.of (rX21_ask_15 hh _ _ _ _ ?_)
    refine ⟨fun _ => ⟨fun _ => ⟨by omega, by omega⟩, ?_⟩, fun z => by omega⟩
    rw [← e]
    (intro zq hzq; replace hzq := hzq.symm; subst hzq)
    rw [rh_if_t hy]
    (intro zq hzq; replace hzq := hzq.symm; subst hzq)
    exact ⟨fun z => by omega, fun _ => ⟨fun _ => ⟨fun _ => ⟨by omega, by omega⟩, fun _ => HP, fun z => absurd d z⟩, fun z => absurd ⟨by decide, b1⟩ z⟩⟩
  intro u
  induction u with
  | zero =>
    intro k b hk b0 b1 d
    exact last k b 32 b0 b1 (by omega) d (.inr rfl) (by rw [rh_if_f (by omega)])
  | succ u ih =>
    intro k b hk b0 b1 d
    have e0 : rh_if (k < n) (A 2 k) 32 = A 2 k := rh_if_t (by omega)
    by_cases q : A 2 k = 10 ∨ A 2 k = 32
    · exact last k b (A 2 k) b0 b1 (by omega) d q e0.symm
    · refine rh1.of (rX21_ask_15 hh _ _ _ _ ?_)
      refine ⟨fun _ => ⟨fun _ => ⟨by omega, by omega⟩, ?_⟩, fun z => by omega⟩
      rw [e0]
      (intro zq hzq; replace hzq := hzq.symm; subst hzq)
      rw [rh_if_f q]
      (intro zq hzq; replace hzq := hzq.symm; subst hzq)
      refine ⟨fun _ => HP, fun _ => ⟨fun z => absurd rfl z.1, fun _ => ?_⟩⟩
      rw [rh_if_f (show ¬ (0 : Int) ≠ 0 by decide)]
      (intro zq hzq; replace hzq := hzq.symm; subst hzq)
      exact ⟨⟨by omega, by omega⟩, ⟨by omega, by omega⟩, ih (k + 1) b (by omega) b0 (by omega) (by omega)⟩
theorem t_askL (hh : rh_hs wh) (hm : rh_ms wm) {v : Int → Int} {n : Int} (hn : 0 ≤ n ∧ n ≤ 4096) (Mh Mm : rhM) (hvh : ∀ k : Int, 0 ≤ k → k < n → rh_and (Mh 2 k) 255 = v k ∧ (0 ≤ v k ∧ v k ≤ 255) ∧ -128 ≤ Mh 2 k ∧ Mh 2 k ≤ 127) (hm2 : Mm 0 2 = n) (hvm : ∀ k : Int, 0 ≤ k → k < n → Mm 1 k = v k) :
    ∀ (u : Nat) (k b g : Int) (A B : rhM), k + u = n → 0 ≤ k → Asg A B v k b g → frx Fas Mh A → frx Gsp Mm B → ∃ r q A' B', (∀ P : Int → rhM → Prop, P r A' → rh1 wh YX21_ask 2 15 [(0, 2, 98), (1, 2, 1), (2, 0, n), (3, 0, b), (4, 0, k)] [] A P) ∧ (∀ P : Int → rhM → Prop, P q B' → rh1 wm YX32_splitTape 1 10 [(0, 2, 0), (1, 0, 12), (2, 0, 12), (3, 0, k - b), (4, 0, k)] [] B P) ∧ frx Fas Mh A' ∧ frx Gsp Mm B' ∧ ((r = 0 ∧ (q ≠ -1 ∨ B' 0 99 = 0)) ∨ (r = 1 ∧ q = -1 ∧ A' 98 4 = B' 0 99 ∧ (1 ≤ B' 0 99 ∧ B' 0 99 ≤ 12) ∧ ∀ i, 0 ≤ i → i < B' 0 99 → Aw A' B' v n i)) := by
  -- a blank: the word before it is kept
  have bl : ∀ (k b g y : Int) (A B : rhM), 0 ≤ k → k ≤ n → Asg A B v k b g → frx Fas Mh A → (y = 10 ∨ y = 32) → y = rh_if (k < n) (A 2 k) 32 → ∃ A', (∀ P : Int → rhM → Prop, rh1 wh YX21_ask 2 15 [(0, 2, 98), (1, 2, 1), (2, 0, n), (3, 0, k + 1), (4, 0, k + 1)] [] A' P → rh1 wh YX21_ask 2 15 [(0, 2, 98), (1, 2, 1), (2, 0, n), (3, 0, b), (4, 0, k)] [] A P) ∧ frx Fas Mh A' ∧ A' 98 4 = rh_if (b < k) (g + 1) g ∧ ∀ i, 0 ≤ i → i < rh_if (b < k) (g + 1) g → Aw A' B v k i := by
    intro k b g y A B k0 kn S fA hy e
    obtain ⟨s1, s2, s3, s4, s5, s6, s7, s8⟩ := S
    by_cases w : b < k
    · have g12 := s4 w
      obtain ⟨e70, e71⟩ := s6 w
      have K := c_set100 hh (g := g) (f := b) (n := k - b) ⟨by omega, by omega⟩ ⟨by omega, by omega⟩ ⟨by omega, by omega⟩ (rh_set A 98 4 (g + 1))
      obtain ⟨A', hA'⟩ : ∃ A', A' = rh_set (rh_cpy (rh_set A 98 4 (g + 1)) 2 b 101 (12 * g) (k - b)) 102 g (k - b) := ⟨_, rfl⟩
      rw [← hA'] at K
      have f1 : frx (fun c j => (c = 98 ∧ j = 4) ∨ (c = 101 ∧ 12 * g ≤ j ∧ j < 12 * g + (k - b)) ∨ (c = 102 ∧ j = g)) A A' := by
        rw [hA']
        exact ((frx.rf.st (by omega)).cpy (fun j j0 j1 => by omega)).st (by omega)
      refine ⟨A', fun P HP => ?_, fA.tr (f1.w (fun c j h => by unfold Fas; omega)), ?_, ?_⟩
      · refine rh1.of (rX21_ask_15 hh _ _ _ _ ?_)
        refine ⟨fun _ => ⟨fun _ => ⟨by omega, by omega⟩, ?_⟩, fun z => by omega⟩
        rw [← e]
        (intro zq hzq; replace hzq := hzq.symm; subst hzq)
        rw [rh_if_t hy, s1]
        (intro zq hzq; replace hzq := hzq.symm; subst hzq)
        refine ⟨fun z => by omega, fun _ => ⟨fun _ => ⟨fun _ => ⟨by omega, by omega⟩, fun z => by omega, fun _ => ⟨⟨by omega, by omega⟩, ?_⟩⟩, fun z => absurd ⟨by decide, w⟩ z⟩⟩
        refine rh1.s (eS.fx 0 (x := k - b) rfl ⟨by omega, by omega⟩ rfl) ?_
        refine rh1.s (vX21_ask_132 (hs_rw100 hh) K (LE0 rfl)) ?_
        refine rh1.of (rX21_ask_135 hh _ _ _ _ _ ?_)
        rw [rh_if_t (show (1 : Int) ≠ 0 by decide)]
        (intro zq hzq; replace hzq := hzq.symm; subst hzq)
        exact ⟨⟨by omega, by omega⟩, ⟨by omega, by omega⟩, HP⟩
      · rw [rh_if_t w, hA', rh_set_a (by decide), rh_cpy_a (by decide), rh_set_s]
      · rw [rh_if_t w]
        intro i i0 i1
        by_cases ei : i = g
        · subst ei
          refine ⟨by rw [hA', rh_set_s, e71], by rw [e71]; exact ⟨by omega, by omega⟩, by rw [e70, e71]; exact ⟨by omega, by omega⟩, fun t t0 t1 => ?_⟩
          rw [e71] at t1
          have o := s7 (b + t) (by omega) (by omega)
          have h2 := hvh (b + t) (by omega) (by omega)
          rw [e70, hA', rh_set_a (by decide), rh_cpy_v ⟨by omega, by omega⟩, rh_set_a (by decide), show b + (12 * i + t - 12 * i) = b + t by omega, fA 2 _ (by unfold Fas; omega)]
          exact ⟨(by_s h2.1 h2.2.2).2 o, o⟩
        · exact (s8 i i0 (by omega)).fx (Int.le_refl _) (f1 _ _ (by omega)) (fun t t0 t1 => f1 _ _ (by omega)) rfl rfl
    · refine ⟨A, fun P HP => ?_, fA, by rw [rh_if_f w]; exact s1, by rw [rh_if_f w]; exact s8⟩
      refine rh1.of (rX21_ask_15 hh _ _ _ _ ?_)
      refine ⟨fun _ => ⟨fun _ => ⟨by omega, by omega⟩, ?_⟩, fun z => by omega⟩
      rw [← e]
      (intro zq hzq; replace hzq := hzq.symm; subst hzq)
      rw [rh_if_t hy]
      (intro zq hzq; replace hzq := hzq.symm; subst hzq)
      refine ⟨fun z => by omega, fun _ => ⟨fun z => absurd z.2 w, fun _ => ?_⟩⟩
      rw [rh_if_t (show (1 : Int) ≠ 0 by decide)]
      (intro zq hzq; replace hzq := hzq.symm; subst hzq)
      exact ⟨⟨by omega, by omega⟩, ⟨by omega, by omega⟩, HP⟩
  intro u
  induction u with
  | zero =>
    intro k b g A B hk k0 S fA fB
    have e : k = n := by omega
    subst e
    obtain ⟨A', E, f', a4, aw⟩ := bl k b g 32 A B k0 (Int.le_refl _) S fA (.inr rfl) (by rw [rh_if_f (by omega)])
    have eB : B 0 99 = rh_if (b < k) (g + 1) g := S.2.2.2.2.1
    have gb : 0 ≤ rh_if (b < k) (g + 1) g ∧ rh_if (b < k) (g + 1) g ≤ 12 := by
      have h4 := S.2.2.2.1
      have h2 := S.2.1
      by_cases w : b < k
      · rw [rh_if_t w]; have := h4 w; omega
      · rw [rh_if_f w]; omega
    have eM : ∀ P : Int → rhM → Prop, P (-1) B → rh1 wm YX32_splitTape 1 10 [(0, 2, 0), (1, 0, 12), (2, 0, 12), (3, 0, k - b), (4, 0, k)] [] B P := fun P HP => by
      refine rh1.of (rX32_splitTape_10 hm _ _ _ _ _ ?_)
      rw [fB 0 2 (by unfold Gsp; omega), hm2]
      exact ⟨fun z => by omega, fun _ => HP⟩
    refine ⟨rh_if (0 < rh_if (b < k) (g + 1) g) 1 0, -1, A', B, fun P HP => E P ?_, eM, f', fB, ?_⟩
    · refine rh1.of (rX21_ask_15 hh _ _ _ _ ?_)
      rw [a4]
      exact ⟨fun z => by omega, fun _ => HP⟩
    · by_cases z : 0 < rh_if (b < k) (g + 1) g
      · rw [rh_if_t z, eB, a4]
        exact .inr ⟨rfl, rfl, rfl, ⟨by omega, by omega⟩, aw⟩
      · rw [rh_if_f z, eB]
        exact .inl ⟨rfl, .inr (by omega)⟩
  | succ u ih =>
    intro k b g A B hk k0 S fA fB
    have eA2 : A 2 k = Mh 2 k := fA 2 k (by unfold Fas; omega)
    have eB1 : B 1 k = v k := by rw [fB 1 k (by unfold Gsp; omega)]; exact hvm k k0 (by omega)
    have eB2 : B 0 2 = n := by rw [fB 0 2 (by unfold Gsp; omega)]; exact hm2
    obtain ⟨v1, v2, v3⟩ := hvh k k0 (by omega)
    have hbl := by_k v1 v3
    have hsg := by_s v1 v3
    have e0 : rh_if (k < n) (A 2 k) 32 = A 2 k := rh_if_t (by omega)
    have SS := S
    obtain ⟨s1, s2, s3, s4, s5, s6, s7, s8⟩ := S
    by_cases q : A 2 k = 10 ∨ A 2 k = 32
    · obtain ⟨A', E, f', a4, aw⟩ := bl k b g (A 2 k) A B k0 (by omega) SS fA q e0.symm
      have gb : 0 ≤ rh_if (b < k) (g + 1) g ∧ rh_if (b < k) (g + 1) g ≤ 12 := by
        by_cases w : b < k
        · rw [rh_if_t w]; have := s4 w; omega
        · rw [rh_if_f w]; omega
      obtain ⟨r, p, A2, B2, E1, E2, rest⟩ := ih (k + 1) (k + 1) (rh_if (b < k) (g + 1) g) A' B (by omega) (by omega) ⟨a4, gb, ⟨by omega, by omega⟩, fun z => by omega, by rw [s5, rh_if_f (show ¬ k + 1 < k + 1 by omega)], fun z => by omega, fun t t0 t1 => by omega, fun i i0 i1 => (aw i i0 i1).fx (by omega) rfl (fun _ _ _ => rfl) rfl rfl⟩ f' fB
      refine ⟨r, p, A2, B2, fun P HP => E P (E1 P HP), fun P HP => ?_, rest⟩
      refine rh1.of (rX32_splitTape_10 hm _ _ _ _ _ ?_)
      rw [eB2, eB1]
      rw [eA2] at q
      refine ⟨fun _ => ⟨⟨by omega, by omega⟩, fun _ => ⟨⟨by omega, by omega⟩, ?_⟩, fun z => absurd (hbl.mp q) z⟩, fun z => by omega⟩
      have := E2 P HP
      rwa [show k + 1 - (k + 1) = 0 by omega] at this
    · have nb : ¬ (v k = 10 ∨ v k = 32) := fun z => q (by rw [eA2]; exact hbl.mpr z)
      by_cases sg : 33 ≤ A 2 k ∧ A 2 k ≤ 126
      case neg =>
        have ns : ¬ (33 ≤ v k ∧ v k ≤ 126) := fun z => sg (by rw [eA2]; exact hsg.1.mpr z)
        refine ⟨0, k, A, B, fun P HP => ?_, fun P HP => ?_, fA, fB, .inl ⟨rfl, .inl (by omega)⟩⟩
        · refine rh1.of (rX21_ask_15 hh _ _ _ _ ?_)
          refine ⟨fun _ => ⟨fun _ => ⟨by omega, by omega⟩, ?_⟩, fun z => by omega⟩
          rw [e0]
          (intro zq hzq; replace hzq := hzq.symm; subst hzq)
          rw [rh_if_f q]
          (intro zq hzq; replace hzq := hzq.symm; subst hzq)
          exact ⟨fun _ => HP, fun z => absurd ⟨rfl, sg⟩ z⟩
        · refine rh1.of (rX32_splitTape_10 hm _ _ _ _ _ ?_)
          rw [eB2, eB1]
          refine ⟨fun _ => ⟨⟨by omega, by omega⟩, fun z => absurd z nb, fun _ => ?_⟩, fun z => by omega⟩
          intro y hy
          exact ⟨⟨by omega, by omega⟩, fun z => absurd z ns, fun _ => HP⟩
      have sv : 33 ≤ v k ∧ v k ≤ 126 := by rw [eA2] at sg; exact hsg.1.mp sg
      -- the house goes on with this sign
      have hgo : ∀ P : Int → rhM → Prop, rh1 wh YX21_ask 2 15 [(0, 2, 98), (1, 2, 1), (2, 0, n), (3, 0, b), (4, 0, k + 1)] [] A P → rh1 wh YX21_ask 2 15 [(0, 2, 98), (1, 2, 1), (2, 0, n), (3, 0, b), (4, 0, k)] [] A P := fun P HP => by
        refine rh1.of (rX21_ask_15 hh _ _ _ _ ?_)
        refine ⟨fun _ => ⟨fun _ => ⟨by omega, by omega⟩, ?_⟩, fun z => by omega⟩
        rw [e0]
        (intro zq hzq; replace hzq := hzq.symm; subst hzq)
        rw [rh_if_f q]
        (intro zq hzq; replace hzq := hzq.symm; subst hzq)
        refine ⟨fun z => absurd sg z.2, fun _ => ⟨fun z => absurd rfl z.1, fun _ => ?_⟩⟩
        rw [rh_if_f (show ¬ (0 : Int) ≠ 0 by decide)]
        (intro zq hzq; replace hzq := hzq.symm; subst hzq)
        exact ⟨⟨by omega, by omega⟩, ⟨by omega, by omega⟩, HP⟩
      by_cases dm : (b < k ∧ k - b = 12) ∨ (b = k ∧ g = 12)
      · refine ⟨0, k, A, B, fun P HP => hgo P (h_doom hh hn A P HP u (k + 1) b (by omega) (by omega) (by omega) (by rw [s1]; omega)), fun P HP => ?_, fA, fB, .inl ⟨rfl, .inl (by omega)⟩⟩
        refine rh1.of (rX32_splitTape_10 hm _ _ _ _ _ ?_)
        rw [eB2, eB1]
        refine ⟨fun _ => ⟨⟨by omega, by omega⟩, fun z => absurd z nb, fun _ => ?_⟩, fun z => by omega⟩
        intro y hy
        refine ⟨⟨by omega, by omega⟩, fun _ => ⟨fun _ => HP, fun z => absurd ?_ z⟩, fun z => absurd sv z⟩
        rcases dm with d | d
        · rw [rh_if_f (by omega)] at hy
          exact .inl ⟨hy, d.2⟩
        · rw [rh_if_t (by omega)] at hy
          refine .inr ⟨by omega, .inl ?_⟩
          rw [s5, rh_if_f (by omega)]
          exact d.2
      · by_cases w : b < k
        · obtain ⟨e70, e71⟩ := s6 w
          have g12 := s4 w
          have eg : B 0 99 = g + 1 := by rw [s5, rh_if_t w]
          obtain ⟨B1, hB1⟩ : ∃ B1, B1 = rh_set B 71 g (k - b + 1) := ⟨_, rfl⟩
          have f1 : frx (fun c j => c = 71 ∧ j = g) B B1 := by rw [hB1]; exact frx.rf.st (by omega)
          obtain ⟨r, p, A2, B2, E1, E2, rest⟩ := ih (k + 1) b g A B1 (by omega) (by omega) ⟨s1, s2, ⟨by omega, by omega⟩, fun _ => g12, by rw [f1 _ _ (by omega), eg, rh_if_t (by omega)], fun _ => ⟨by rw [f1 _ _ (by omega)]; exact e70, by rw [hB1, rh_set_s]; omega⟩, fun t t0 t1 => by
            by_cases e : t = k
            · rw [e]; exact sv
            · exact s7 t t0 (by omega), fun i i0 i1 => (s8 i i0 i1).fx (by omega) rfl (fun _ _ _ => rfl) (f1 _ _ (by omega)) (f1 _ _ (by omega))⟩ fA (fB.tr (f1.w (fun c j h => by unfold Gsp; omega)))
          refine ⟨r, p, A2, B2, fun P HP => hgo P (E1 P HP), fun P HP => ?_, rest⟩
          refine rh1.of (rX32_splitTape_10 hm _ _ _ _ _ ?_)
          rw [eB2, eB1]
          refine ⟨fun _ => ⟨⟨by omega, by omega⟩, fun z => absurd z nb, fun _ => ?_⟩, fun z => by omega⟩
          intro y hy
          rw [rh_if_f (by omega)] at hy
          rw [hy]
          refine ⟨⟨by omega, by omega⟩, fun _ => ⟨fun z => by omega, fun _ => ⟨fun z => absurd rfl z, fun _ => ⟨⟨by omega, by omega⟩, ?_⟩⟩⟩, fun z => absurd sv z⟩
          (intro zq hzq; replace hzq := hzq.symm; subst hzq)
          rw [eg, show g + 1 - 1 = g by omega, ← hB1]
          refine ⟨⟨by omega, by omega⟩, ⟨by omega, by omega⟩, ?_⟩
          have := E2 P HP
          rwa [show k + 1 - b = k - b + 1 by omega] at this
        · have eb : b = k := by omega
          have eg : B 0 99 = g := by rw [s5, rh_if_f w]
          have g12 : g < 12 := by omega
          obtain ⟨B1, hB1⟩ : ∃ B1, B1 = rh_set (rh_set (rh_set B 70 g k) 0 99 (g + 1)) 71 g 1 := ⟨_, rfl⟩
          have f1 : frx (fun c j => (c = 70 ∧ j = g) ∨ (c = 0 ∧ j = 99) ∨ (c = 71 ∧ j = g)) B B1 := by rw [hB1]; exact ((frx.rf.st (by omega)).st (by omega)).st (by omega)
          obtain ⟨r, p, A2, B2, E1, E2, rest⟩ := ih (k + 1) b g A B1 (by omega) (by omega) ⟨s1, s2, ⟨by omega, by omega⟩, fun _ => g12, by rw [hB1, rh_set_a (by decide), rh_set_s, rh_if_t (by omega)], fun _ => ⟨by rw [hB1, rh_set_a (by decide), rh_set_a (by decide), rh_set_s]; exact eb.symm, by rw [hB1, rh_set_s]; omega⟩, fun t t0 t1 => by rw [show t = k by omega]; exact sv, fun i i0 i1 => (s8 i i0 i1).fx (by omega) rfl (fun _ _ _ => rfl) (f1 _ _ (by omega)) (f1 _ _ (by omega))⟩ fA (fB.tr (f1.w (fun c j h => by unfold Gsp; omega)))
          refine ⟨r, p, A2, B2, fun P HP => hgo P (E1 P HP), fun P HP => ?_, rest⟩
          refine rh1.of (rX32_splitTape_10 hm _ _ _ _ _ ?_)
          rw [eB2, eB1]
          refine ⟨fun _ => ⟨⟨by omega, by omega⟩, fun z => absurd z nb, fun _ => ?_⟩, fun z => by omega⟩
          intro y hy
          rw [rh_if_t (by omega)] at hy
          rw [hy, eg]
          refine ⟨⟨by omega, by omega⟩, fun _ => ⟨fun z => by omega, fun _ => ⟨fun _ => ⟨⟨by omega, by omega⟩, ?_⟩, fun z => absurd (show (1 : Int) ≠ 0 by decide) z⟩⟩, fun z => absurd sv z⟩
          (intro zq hzq; replace hzq := hzq.symm; subst hzq)
          rw [rh_set_a (by decide), eg]
          refine ⟨⟨by omega, by omega⟩, ⟨by omega, by omega⟩, ?_⟩
          (intro zq hzq; replace hzq := hzq.symm; subst hzq)
          rw [rh_set_s, show g + 1 - 1 = g by omega, show k - b + 1 = 1 by omega, ← hB1]
          refine ⟨⟨by omega, by omega⟩, ⟨by omega, by omega⟩, ?_⟩
          have := E2 P HP
          rwa [show k + 1 - b = 1 by omega] at this
/-- the words asked for, on both sides -/
theorem t_ask (hh : rh_hs wh) (hm : rh_ms wm) {Mh Mm : rhM} (T : Rtp Mh Mm) : ∃ r q A' B', eC wh YX21_ask 2 [(2, 98), (2, 1)] Mh r A' ∧ eC wm YX32_splitTape 1 [(2, 0), (0, 12), (0, 12)] Mm q B' ∧ frx Fas Mh A' ∧ frx Gsp Mm B' ∧ ((r = 0 ∧ (q ≠ -1 ∨ B' 0 99 = 0)) ∨ (r = 1 ∧ q = -1 ∧ A' 98 4 = B' 0 99 ∧ (1 ≤ B' 0 99 ∧ B' 0 99 ≤ 12) ∧ ∀ i, 0 ≤ i → i < B' 0 99 → Aw A' B' (Mm 1) (Mm 0 2) i)) := by
  obtain ⟨t1, t2, t3, t4⟩ := T
  obtain ⟨n, hn⟩ : ∃ n, Mm 0 2 = n := ⟨_, rfl⟩
  rw [hn] at t1 t2 t3 t4 ⊢
  obtain ⟨r, q, A', B', E1, E2, f, g, rest⟩ := t_askL hh hm (v := Mm 1) (n := n) ⟨t2, t3⟩ Mh Mm t4 hn (fun _ _ _ => rfl) n.toNat 0 0 0 (rh_set (rh_set Mh 1 3 0) 98 4 0) (rh_set Mm 0 99 0) (by omega) (by decide) ⟨rh_set_s _ _ _ _, by decide, by decide, fun z => by omega, by rw [rh_set_s, rh_if_f (by decide)], fun z => by omega, fun t a b => by omega, fun i a b => by omega⟩ ((frx.rf.st (by unfold Fas; omega)).st (by unfold Fas; omega)) (frx.rf.st (by unfold Gsp; omega))
  refine ⟨r, q, A', B', eC.of1 (rC1.of (by decide) (LE0 rfl) ?_), eC.of1 (rC1.of (by decide) (LE0 rfl) ?_), f, g, rest⟩
  · refine rh1.of (rX21_ask_0 hh _ ?_)
    rw [t1]
    exact E1 _ ⟨rfl, rfl⟩
  · refine rh1.of (rX32_splitTape_0 hm _ _ _ ?_)
    exact E2 _ ⟨rfl, rfl⟩
end Ask
