/-! ===== LAYER 2: elimination, both sides ===== -/
section Solve
variable {wh wm : rhW}
def MtH (A : rhM) (w n : Int) (H : Int → Int → Int) : Prop := ∀ e c, 0 ≤ e → e < n → 0 ≤ c → c < w → A 219 (w * e + c) = H e c
theorem h_swap (hh : rh_hs wh) {A : rhM} {H : Int → Int → Int} {n w k p : Int} (hw : 1 ≤ w ∧ w ≤ 9) (hn : n ≤ 8) (hk : 0 ≤ k ∧ k < n) (hp : 0 ≤ p ∧ p < n) : ∀ (m : Nat) (c : Int) (X : rhM), c + m = w → 0 ≤ c → (∀ e d, 0 ≤ e → e < n → 0 ≤ d → d < w → X 219 (w * e + d) = if d < c then swp H k p e d else H e d) → frx (fun c _ => c = 219) A X → ∃ X', eS wh YX26_isSolved 2 132 [(0, 2, 213), (1, 0, n), (2, 0, w), (3, 0, k), (4, 0, p), (5, 0, c)] [] X 132 [(0, 2, 213), (1, 0, n), (2, 0, w), (3, 0, k), (4, 0, p), (5, 0, w)] [] X' ∧ MtH X' w n (swp H k p) ∧ frx (fun c _ => c = 219) A X' := by
  intro m
  induction m with
  | zero =>
    intro c X hc c0 h g
    have e : c = w := by omega
    rw [e] at h ⊢
    exact ⟨X, eS.rf, fun a d a0 a1 d0 d1 => by rw [h a d a0 a1 d0 d1, if_pos d1], g⟩
  | succ m ih =>
    intro c X hc c0 h g
    have hk' := h k c hk.1 hk.2 c0 (by omega)
    have hp' := h p c hp.1 hp.2 c0 (by omega)
    rw [if_neg (by omega)] at hk' hp'
    have m1 := mxi (w := w) (n := n) (a := p) (b := c) ⟨by omega, by omega⟩ hn hp ⟨by omega, by omega⟩
    have m2 := mxi (w := w) (n := n) (a := k) (b := c) ⟨by omega, by omega⟩ hn hk ⟨by omega, by omega⟩
    obtain ⟨X', E, r⟩ := ih (c + 1) (rh_set (rh_set X 219 (w * p + c) (H k c)) 219 (w * k + c) (H p c)) (by omega) (by omega) (fun e d e0 e1 d0 d1 => by
      have nk : ¬ (e = k ∧ d = c) → w * e + d ≠ w * k + c := fun z y => z (mix (h := 0) ⟨d0, d1⟩ ⟨c0, by omega⟩ y)
      have np : ¬ (e = p ∧ d = c) → w * e + d ≠ w * p + c := fun z y => z (mix (h := 0) ⟨d0, d1⟩ ⟨c0, by omega⟩ y)
      by_cases ec : d = c
      · rw [if_pos (show d < c + 1 by omega), ec]
        rw [ec] at nk np
        by_cases ek : e = k
        · rw [ek, rh_set_s, swp_u]
        · rw [rh_set_j (nk (fun z => ek z.1))]
          by_cases ep : e = p
          · rw [ep, rh_set_s, swp_p]
          · rw [rh_set_j (np (fun z => ep z.1)), swp_o ek ep, h e c e0 e1 c0 (by omega), if_neg (by omega)]
      · rw [rh_set_j (nk (fun z => ec z.2)), rh_set_j (np (fun z => ec z.2)), h e d e0 e1 d0 d1]
        by_cases l : d < c
        · rw [if_pos l, if_pos (by omega)]
        · rw [if_neg l, if_neg (by omega)]) ((g.st rfl).st rfl)
    refine ⟨X', eS.of (fun P HP => ?_), r⟩
    refine rh1.of (rX26_isSolved_132 hh _ _ _ _ _ _ ?_)
    rw [hk', hp']
    refine ⟨fun _ => ⟨⟨by omega, by omega⟩, ?_⟩, fun z => by omega⟩
    (intro zq hzq; replace hzq := hzq.symm; subst hzq)
    exact ⟨⟨by omega, by omega⟩, ⟨by omega, by omega⟩, ⟨by omega, by omega⟩, ⟨by omega, by omega⟩, rh1.s E HP⟩
theorem t_elim (hh : rh_hs wh) (hm : rh_ms wm) {A B : rhM} {s : Int → Int} {n : Int} {m : Nat} (R : Rmn A) (hm8 : m ≤ 8) (hn : 1 ≤ n ∧ n ≤ 8) (hmn : (m : Int) ≤ n) (hs : ∀ c : Int, 0 ≤ c → c < m → R16 (s c)) (h6 : A 213 6 = m) : ∀ (u : Nat) (k : Int) (H S : Int → Int → Int) (X Y : rhM), k + u = m → 0 ≤ k → Elm H S s n m k → MtH X (m + 1) n H → Mtx Y n S → frx (fun c _ => c = 219) A X → frx (fun c j => c = 175 ∧ j < 9 * n) B Y → ∃ X' Y', (frx (fun c _ => c = 219) A X' ∧ frx (fun c j => c = 175 ∧ j < 9 * n) B Y') ∧ ((Kex S n m ∧ (∀ P : Int → rhM → Prop, P 0 X' → rh1 wh YX26_isSolved 2 84 [(0, 2, 213), (1, 0, n), (2, 0, m + 1), (3, 0, k)] [] X P) ∧ ∀ P : Int → rhM → Prop, P 0 Y' → rh1 wm YX32_solvePlaces 3 115 [(0, 2, 0), (2, 0, n), (3, 0, m), (4, 0, k)] [] Y P) ∨ ∃ H' S', Elm H' S' s n m m ∧ MtH X' (m + 1) n H' ∧ Mtx Y' n S' ∧ eS wh YX26_isSolved 2 84 [(0, 2, 213), (1, 0, n), (2, 0, m + 1), (3, 0, k)] [] X 84 [(0, 2, 213), (1, 0, n), (2, 0, m + 1), (3, 0, m)] [] X' ∧ eS wm YX32_solvePlaces 3 115 [(0, 2, 0), (2, 0, n), (3, 0, m), (4, 0, k)] [] Y 115 [(0, 2, 0), (2, 0, n), (3, 0, m), (4, 0, m)] [] Y' ∧ ∀ y : Int → Int, (∀ c : Int, 0 ≤ c → c < m → R16 (y c)) → (Sol y S n m ↔ Sol y S' n m)) := by
  intro u
  induction u with
  | zero =>
    intro k H S X Y hk k0 E MX MY gX gY
    have e : k = m := by omega
    rw [e] at E ⊢
    exact ⟨X, Y, ⟨gX, gY⟩, .inr ⟨H, S, E, MX, MY, eS.rf, eS.rf, fun y _ => Iff.rfl⟩⟩
  | succ u ih =>
    intro k H S X Y hk k0 E MX MY gX gY
    have x6 : X 213 6 = m := by rw [gX 213 6 (by omega)]; exact h6
    have RX : Rmn X := ⟨fun i i0 i1 => by rw [gX 214 i (by omega)]; exact R.1 i i0 i1, fun i i0 i1 => by rw [gX 215 i (by omega)]; exact R.2 i i0 i1⟩
    obtain ⟨E1, E2, ⟨d, d1, d2⟩, E3, E4⟩ := id E
    have col : ∀ e, k ≤ e → e < n → S e k = H e k := fun e e0 e1 => by
      have q := d2 e k (by omega) e1 k0 (by omega)
      rw [(d1 e (by omega) e1).2 e0, (gfm_0 (E2 e k (by omega) e1 k0 (by omega))).2.2.1] at q
      rw [← q]
      exact (if_neg (by omega)).symm
    have piv : ∀ (v : Nat) (p : Int), p + v = n → k ≤ p → (∃ p', (p ≤ p' ∧ p' < n) ∧ H p' k ≠ 0 ∧ eS wh YX26_isSolved 2 95 [(0, 2, 213), (1, 0, n), (2, 0, m + 1), (3, 0, k), (4, 0, p)] [] X 95 [(0, 2, 213), (1, 0, n), (2, 0, m + 1), (3, 0, k), (4, 0, p')] [] X ∧ eS wm YX32_solvePlaces 3 125 [(0, 2, 0), (2, 0, n), (3, 0, m), (4, 0, k), (5, 0, p)] [] Y 125 [(0, 2, 0), (2, 0, n), (3, 0, m), (4, 0, k), (5, 0, p')] [] Y) ∨ ((∀ e, p ≤ e → e < n → H e k = 0) ∧ (∀ P : Int → rhM → Prop, P 0 X → rh1 wh YX26_isSolved 2 95 [(0, 2, 213), (1, 0, n), (2, 0, m + 1), (3, 0, k), (4, 0, p)] [] X P) ∧ ∀ P : Int → rhM → Prop, P 0 Y → rh1 wm YX32_solvePlaces 3 125 [(0, 2, 0), (2, 0, n), (3, 0, m), (4, 0, k), (5, 0, p)] [] Y P) := by
      intro v
      induction v with
      | zero =>
        intro p hp p0
        refine .inr ⟨fun e e0 e1 => by omega, fun P HP => ?_, fun P HP => ?_⟩
        · refine rh1.of (rX26_isSolved_95 hh _ _ _ _ _ ?_)
          exact ⟨fun z => by omega, fun z => by omega, fun _ => ⟨fun _ => HP, fun z => by omega⟩⟩
        · refine rh1.of (rX32_solvePlaces_125 hm _ _ _ _ _ ?_)
          exact ⟨fun z => by omega, fun z => by omega, fun _ => ⟨fun _ => HP, fun z => by omega⟩⟩
      | succ v iv =>
        intro p hp p0
        have m1 := mxi (w := (m : Int) + 1) (n := n) (a := p) (b := k) ⟨by omega, by omega⟩ hn.2 ⟨by omega, by omega⟩ ⟨by omega, by omega⟩
        have hx := MX p k (by omega) (by omega) k0 (by omega)
        have hy := MY p k (by omega) (by omega) k0 (by omega)
        rw [col p p0 (by omega)] at hy
        by_cases z : H p k = 0
        · have sH : ∀ P : Int → rhM → Prop, rh1 wh YX26_isSolved 2 95 [(0, 2, 213), (1, 0, n), (2, 0, m + 1), (3, 0, k), (4, 0, p + 1)] [] X P → rh1 wh YX26_isSolved 2 95 [(0, 2, 213), (1, 0, n), (2, 0, m + 1), (3, 0, k), (4, 0, p)] [] X P := fun P HP => by
            refine rh1.of (rX26_isSolved_95 hh _ _ _ _ _ ?_)
            rw [hx]
            exact ⟨fun _ => ⟨by omega, by omega⟩, fun _ => ⟨⟨by omega, by omega⟩, HP⟩, fun y => absurd ⟨by omega, z⟩ y⟩
          have sM : ∀ P : Int → rhM → Prop, rh1 wm YX32_solvePlaces 3 125 [(0, 2, 0), (2, 0, n), (3, 0, m), (4, 0, k), (5, 0, p + 1)] [] Y P → rh1 wm YX32_solvePlaces 3 125 [(0, 2, 0), (2, 0, n), (3, 0, m), (4, 0, k), (5, 0, p)] [] Y P := fun P HP => by
            refine rh1.of (rX32_solvePlaces_125 hm _ _ _ _ _ ?_)
            rw [hy]
            exact ⟨fun _ => ⟨by omega, by omega⟩, fun _ => ⟨⟨by omega, by omega⟩, HP⟩, fun y => absurd ⟨by omega, z⟩ y⟩
          rcases iv (p + 1) (by omega) (by omega) with ⟨p', q1, q2, q3, q4⟩ | ⟨q0, q1, q2⟩
          · exact .inl ⟨p', by omega, q2, (eS.of (fun P HP => sH P HP)).tr q3, (eS.of (fun P HP => sM P HP)).tr q4⟩
          · exact .inr ⟨fun e e0 e1 => by
              by_cases ze : e = p
              · rw [ze]; exact z
              · exact q0 e (by omega) e1, fun P HP => sH P (q1 P HP), fun P HP => sM P (q2 P HP)⟩
        · exact .inl ⟨p, by omega, z, eS.rf, eS.rf⟩
    have sH : ∀ P : Int → rhM → Prop, rh1 wh YX26_isSolved 2 95 [(0, 2, 213), (1, 0, n), (2, 0, m + 1), (3, 0, k), (4, 0, k)] [] X P → rh1 wh YX26_isSolved 2 84 [(0, 2, 213), (1, 0, n), (2, 0, m + 1), (3, 0, k)] [] X P := fun P HP => by
      refine rh1.of (rX26_isSolved_84 hh _ _ _ _ ?_)
      rw [x6]
      exact ⟨fun _ => HP, fun z => by omega⟩
    have sM : ∀ P : Int → rhM → Prop, rh1 wm YX32_solvePlaces 3 125 [(0, 2, 0), (2, 0, n), (3, 0, m), (4, 0, k), (5, 0, k)] [] Y P → rh1 wm YX32_solvePlaces 3 115 [(0, 2, 0), (2, 0, n), (3, 0, m), (4, 0, k)] [] Y P := fun P HP => by
      refine rh1.of (rX32_solvePlaces_115 hm _ _ _ _ ?_)
      exact ⟨fun _ => HP, fun z => by omega⟩
    rcases piv (n - k).toNat k (by omega) (Int.le_refl _) with ⟨p, p1, p2, F1, F2⟩ | ⟨q0, q1, q2⟩
    · have m1 := mxi (w := (m : Int) + 1) (n := n) (a := p) (b := k) ⟨by omega, by omega⟩ hn.2 ⟨by omega, by omega⟩ ⟨by omega, by omega⟩
      have hx := MX p k (by omega) (by omega) k0 (by omega)
      have hy := MY p k (by omega) (by omega) k0 (by omega)
      obtain ⟨X1, G1, MX1, gX1⟩ := h_swap hh (A := A) (H := H) (n := n) (w := (m : Int) + 1) (k := k) (p := p) ⟨by omega, by omega⟩ hn.2 ⟨by omega, by omega⟩ ⟨by omega, by omega⟩ (m + 1) 0 X (by omega) (by decide) (fun e c e0 e1 c0 c1 => by rw [if_neg (by omega)]; exact MX e c e0 e1 c0 c1) gX
      have RX1 : Rmn X1 := ⟨fun i i0 i1 => by rw [gX1 214 i (by omega)]; exact R.1 i i0 i1, fun i i0 i1 => by rw [gX1 215 i (by omega)]; exact R.2 i i0 i1⟩
      have Es := E.sw (k := k) (p := p) ⟨by omega, by omega⟩ ⟨by omega, by omega⟩
      obtain ⟨X2, G2, MX2, gX2⟩ := c_clearH hh (A := X1) (H := swp H k p) (k := k) (w := (m : Int) + 1) (n := n) RX1 ⟨by omega, by omega⟩ hn ⟨by omega, by omega, by omega⟩ (fun e c e0 e1 c0 c1 => Es.2.1 e c e0 e1 c0 (by omega)) MX1 (by rw [swp_u]; exact p2)
      obtain ⟨Y2, G3, MY2, gY2⟩ := c_reduce hm (B := Y) (S := S) (n := n) (u := k) (p := p) hn ⟨by omega, by omega⟩ ⟨by omega, by omega⟩ MY E1 (by rw [col p (by omega) (by omega)]; exact p2)
      have Er := Es.rd (k := k) ⟨by omega, by omega, by omega⟩ hm8 hs (by rw [swp_u]; exact p2)
      obtain ⟨X', Y', g', H'⟩ := ih (k + 1) _ _ X2 Y2 (by omega) (by omega) Er MX2 MY2 (gX1.tr gX2) (gY.tr gY2)
      have tH : ∀ P : Int → rhM → Prop, rh1 wh YX26_isSolved 2 84 [(0, 2, 213), (1, 0, n), (2, 0, m + 1), (3, 0, k + 1)] [] X2 P → rh1 wh YX26_isSolved 2 84 [(0, 2, 213), (1, 0, n), (2, 0, m + 1), (3, 0, k)] [] X P := fun P HP => sH P (rh1.s F1 (by
        refine rh1.of (rX26_isSolved_95 hh _ _ _ _ _ ?_)
        rw [hx]
        refine ⟨fun _ => ⟨by omega, by omega⟩, fun z => absurd z.2 p2, fun _ => ⟨fun z => by omega, fun _ => rh1.s G1 ?_⟩⟩
        refine rh1.of (rX26_isSolved_132 hh _ _ _ _ _ _ ?_)
        refine ⟨fun z => by omega, fun _ => rh1.s (vX26_isSolved_198 hh G2 (LE0 rfl)) ?_⟩
        refine rh1.of (rX26_isSolved_201 hh _ _ _ _ ?_)
        exact ⟨⟨by omega, by omega⟩, HP⟩))
      have tM : ∀ P : Int → rhM → Prop, rh1 wm YX32_solvePlaces 3 115 [(0, 2, 0), (2, 0, n), (3, 0, m), (4, 0, k + 1)] [] Y2 P → rh1 wm YX32_solvePlaces 3 115 [(0, 2, 0), (2, 0, n), (3, 0, m), (4, 0, k)] [] Y P := fun P HP => sM P (rh1.s F2 (by
        refine rh1.of (rX32_solvePlaces_125 hm _ _ _ _ _ ?_)
        rw [hy, col p (by omega) (by omega)]
        refine ⟨fun _ => ⟨by omega, by omega⟩, fun z => absurd z.2 p2, fun _ => ⟨fun z => by omega, fun _ => rh1.s (vX32_solvePlaces_167 hm G3 (LE0 rfl)) ?_⟩⟩
        refine rh1.of (rX32_solvePlaces_170 hm _ _ _ _ ?_)
        exact ⟨⟨by omega, by omega⟩, HP⟩))
      refine ⟨X', Y', g', ?_⟩
      rcases H' with ⟨q0, q1, q2⟩ | ⟨H'', S'', q1, q2, q3, q4, q5, q6⟩
      · have Ss := Es.1
        have kk : swp S k p k k = H p k := by rw [swp_u]; exact col p (by omega) (by omega)
        have h16 := E2 p k (by omega) (by omega) k0 (by omega)
        refine .inl ⟨Kex.sw (Kex.rd q0 Ss hm8 ⟨by omega, by omega, by omega⟩ ?_) ⟨by omega, by omega⟩ ⟨by omega, by omega⟩, fun P HP => tH P (q1 P HP), fun P HP => tM P (q2 P HP)⟩
        rw [kk]
        unfold R16 at h16
        omega
      · refine .inr ⟨H'', S'', q1, q2, q3, (eS.of (fun P HP => tH P HP)).tr q4, (eS.of (fun P HP => tM P HP)).tr q5, fun y hy => ?_⟩
        have kk : swp S k p k k = H p k := by rw [swp_u]; exact col p (by omega) (by omega)
        have h16 := E2 p k (by omega) (by omega) k0 (by omega)
        have hkk : 1 ≤ swp S k p k k ∧ swp S k p k k < 16 := by
          rw [kk]
          unfold R16 at h16
          omega
        exact (Iff.intro (fun h => Sol.sw1 h ⟨by omega, by omega⟩ ⟨by omega, by omega⟩) (fun h => Sol.sw2 h ⟨by omega, by omega⟩ ⟨by omega, by omega⟩)).trans ((Sol.rd hy Es.1 hm8 ⟨by omega, by omega, by omega⟩ hkk).trans (q6 y hy))
    · exact ⟨X, Y, ⟨gX, gY⟩, .inl ⟨E.no ⟨by omega, by omega⟩ hm8 hmn q0, fun P HP => sH P (q1 P HP), fun P HP => sM P (q2 P HP)⟩⟩
end Solve
