/-! ===== LAYER 2: the systems are built ===== -/
section Build
variable {wh wm : rhW}
def pwr (e q : Int) : Int := gpw (((e + 1) * q) % 15).toNat
theorem prd {a b : Int} (ha : 0 ≤ a ∧ a ≤ 9) (hb : 0 ≤ b ∧ b ≤ 15) : 0 ≤ a * b ∧ a * b ≤ 135 := by
  refine ⟨Int.mul_nonneg ha.1 hb.1, ?_⟩
  have := Int.mul_le_mul ha.2 hb.2 hb.1 (by decide : (0 : Int) ≤ 9)
  omega
/-- the sum of a word -/
def msum (y : Int → Int) (n j : Int) : Nat → Int
  | 0 => 0
  | i + 1 => rh_xor (msum y n j i) (gfm (y i) (gpw ((j * (n - 1 - i)) % 15).toNat))
theorem c_sumWM (hm : rh_ms wm) {n j : Int} (hn : 0 ≤ n ∧ n ≤ 15) (hj : 0 ≤ j ∧ j ≤ 9) (B : rhM) : eC wm YX32_sumOfWord 1 [(2, 0), (0, n), (0, j)] B (msum (B 174) n j n.toNat) B := by
  refine eC.of1 (rC1.of (by decide) (LE0 rfl) ?_)
  have key : ∀ (u i : Nat), (i : Int) + u = n → rh1 wm YX32_sumOfWord 1 5 [(0, 2, 0), (1, 0, n), (2, 0, j), (3, 0, msum (B 174) n j i), (4, 0, (i : Int))] [] B (fun r M' => r = msum (B 174) n j n.toNat ∧ M' = B) := by
    intro u
    induction u with
    | zero =>
      intro i hi
      refine rh1.of (rX32_sumOfWord_5 hm _ _ _ _ _ ?_)
      refine ⟨fun z => by omega, fun _ => ⟨?_, rfl⟩⟩
      rw [show n.toNat = i by omega]
    | succ u ih =>
      intro i hi
      have p := prd (a := j) (b := n - 1 - i) hj ⟨by omega, by omega⟩
      refine rh1.of (rX32_sumOfWord_5 hm _ _ _ _ _ ?_)
      refine ⟨fun _ => ⟨⟨by omega, by omega⟩, ?_⟩, fun z => by omega⟩
      refine rh1.s (eS.fx 0 (x := j * (n - 1 - i)) rfl ⟨by omega, by omega⟩ rfl) ?_
      refine rh1.s (vX32_sumOfWord_27 (c_powerOf hm p.1 B) (LE0 rfl)) ?_
      refine rh1.s (vX32_sumOfWord_30 (c_timesM hm (B 174 i) (gpw ((j * (n - 1 - i)) % 15).toNat) B) (LE0 rfl)) ?_
      refine rh1.of (rX32_sumOfWord_33 hm _ _ _ _ _ _ ?_)
      refine ⟨⟨by omega, by omega⟩, ?_⟩
      rw [show (i : Int) + 1 = ((i + 1 : Nat) : Int) by omega]
      exact ih (i + 1) (by omega)
  refine rh1.of (rX32_sumOfWord_0 hm _ _ _ ?_)
  exact key n.toNat 0 (by omega)
/-- the house's rows -/
def Hmx (A : rhM) (sz : Int) (m : Nat) (e c : Int) : Int := if c = m then A 218 e else pwr e (sz - 1 - A 217 c)
theorem h_build (hh : rh_hs wh) {A : rhM} {n sz : Int} {m : Nat} (R : Rmn A) (hm8 : m ≤ 8) (hn : 1 ≤ n ∧ n ≤ 8) (hz : A 213 3 = sz) (hz2 : 0 ≤ sz ∧ sz ≤ 15) (h6 : A 213 6 = m) (hp : ∀ c : Int, 0 ≤ c → c < m → 0 ≤ A 217 c ∧ A 217 c < sz) : ∃ X', eS wh YX26_isSolved 2 9 [(0, 2, 213), (1, 0, n), (2, 0, m + 1), (3, 0, 0)] [] A 9 [(0, 2, 213), (1, 0, n), (2, 0, m + 1), (3, 0, n)] [] X' ∧ MtH X' (m + 1) n (Hmx A sz m) ∧ frx (fun c _ => c = 219) A X' := by
  have rows : ∀ (u : Nat) (e : Int) (X : rhM), e + u = n → 0 ≤ e → (∀ a c, 0 ≤ a → a < e → 0 ≤ c → c < (m : Int) + 1 → X 219 (((m : Int) + 1) * a + c) = Hmx A sz m a c) → frx (fun c _ => c = 219) A X → ∃ X', eS wh YX26_isSolved 2 9 [(0, 2, 213), (1, 0, n), (2, 0, m + 1), (3, 0, e)] [] X 9 [(0, 2, 213), (1, 0, n), (2, 0, m + 1), (3, 0, n)] [] X' ∧ MtH X' (m + 1) n (Hmx A sz m) ∧ frx (fun c _ => c = 219) A X' := by
    intro u
    induction u with
    | zero =>
      intro e X he e0 h g
      have en : e = n := by omega
      rw [en] at h ⊢
      exact ⟨X, eS.rf, h, g⟩
    | succ u ih =>
      intro e X he e0 h g
      have cols : ∀ (v : Nat) (c : Int) (Y : rhM), c + v = m → 0 ≤ c → (∀ a d, 0 ≤ a → a < e → 0 ≤ d → d < (m : Int) + 1 → Y 219 (((m : Int) + 1) * a + d) = Hmx A sz m a d) → (∀ d, 0 ≤ d → d < c → Y 219 (((m : Int) + 1) * e + d) = Hmx A sz m e d) → frx (fun c _ => c = 219) A Y → ∃ Y', eS wh YX26_isSolved 2 17 [(0, 2, 213), (1, 0, n), (2, 0, m + 1), (3, 0, e), (4, 0, c)] [] Y 17 [(0, 2, 213), (1, 0, n), (2, 0, m + 1), (3, 0, e), (4, 0, m)] [] Y' ∧ (∀ a d, 0 ≤ a → a < e → 0 ≤ d → d < (m : Int) + 1 → Y' 219 (((m : Int) + 1) * a + d) = Hmx A sz m a d) ∧ (∀ d : Int, 0 ≤ d → d < m → Y' 219 (((m : Int) + 1) * e + d) = Hmx A sz m e d) ∧ frx (fun c _ => c = 219) A Y' := by
        intro v
        induction v with
        | zero =>
          intro c Y hc c0 h1 h2 g'
          have ec : c = m := by omega
          rw [ec] at h2 ⊢
          exact ⟨Y, eS.rf, h1, h2, g'⟩
        | succ v iv =>
          intro c Y hc c0 h1 h2 g'
          have pc := hp c c0 (by omega)
          have p := prd (a := e + 1) (b := sz - 1 - A 217 c) ⟨by omega, by omega⟩ ⟨by omega, by omega⟩
          have RY : Rmn Y := ⟨fun i i0 i1 => by rw [g' 214 i (by omega)]; exact R.1 i i0 i1, fun i i0 i1 => by rw [g' 215 i (by omega)]; exact R.2 i i0 i1⟩
          have w := wt_e RY p.1
          have x1 := Int.emod_nonneg ((e + 1) * (sz - 1 - A 217 c)) (show (15 : Int) ≠ 0 by decide)
          have x2 := Int.emod_lt_of_pos ((e + 1) * (sz - 1 - A 217 c)) (show (0 : Int) < 15 by decide)
          have m1 := mxi (w := (m : Int) + 1) (n := n) (a := e) (b := c) ⟨by omega, by omega⟩ hn.2 ⟨by omega, by omega⟩ ⟨by omega, by omega⟩
          have hv : Hmx A sz m e c = gpw (((e + 1) * (sz - 1 - A 217 c)) % 15).toNat := if_neg (by omega)
          obtain ⟨Y', E, r⟩ := iv (c + 1) (rh_set Y 219 (((m : Int) + 1) * e + c) (Hmx A sz m e c)) (by omega) (by omega) (fun a d a0 a1 d0 d1 => by
            rw [rh_set_j (fun y => by have := (mix (h := 0) ⟨d0, d1⟩ ⟨c0, by omega⟩ y).1; omega)]
            exact h1 a d a0 a1 d0 d1) (fun d d0 d1 => by
            by_cases ed : d = c
            · rw [ed, rh_set_s]
            · rw [rh_set_j (by omega)]; exact h2 d d0 (by omega)) (g'.st rfl)
          refine ⟨Y', eS.of (fun P HP => ?_), r⟩
          refine rh1.of (rX26_isSolved_17 hh _ _ _ _ _ ?_)
          rw [g' 213 6 (by omega), h6, g' 213 3 (by omega), hz, g' 217 c (by omega), w.1, ← hv]
          refine ⟨fun _ => ⟨⟨by omega, by omega⟩, ⟨by omega, by omega⟩, ⟨by omega, by omega⟩, ⟨by omega, by omega⟩, ⟨by omega, by omega⟩, ?_⟩, fun z => by omega⟩
          (intro zq hzq; replace hzq := hzq.symm; subst hzq)
          exact ⟨⟨by omega, by omega⟩, ⟨by omega, by omega⟩, rh1.s E HP⟩
      obtain ⟨Y, E1, y1, y2, y3⟩ := cols m 0 X (by omega) (by decide) h (fun d d0 d1 => by omega) g
      have m1 := mxi (w := (m : Int) + 1) (n := n) (a := e) (b := m) ⟨by omega, by omega⟩ hn.2 ⟨by omega, by omega⟩ ⟨by omega, by omega⟩
      obtain ⟨X', E2, r⟩ := ih (e + 1) (rh_set Y 219 (((m : Int) + 1) * e + m) (A 218 e)) (by omega) (by omega) (fun a c a0 a1 c0 c1 => by
        by_cases ea : a = e
        · rw [ea]
          by_cases ec : c = m
          · rw [ec, rh_set_s]; exact (if_pos rfl).symm
          · rw [rh_set_j (by omega)]; exact y2 c c0 (by omega)
        · rw [rh_set_j (fun y => by have := (mix (h := 0) ⟨c0, c1⟩ ⟨by omega, by omega⟩ y).1; omega)]
          exact y1 a c a0 (by omega) c0 c1) (y3.st rfl)
      refine ⟨X', eS.of (fun P HP => ?_), r⟩
      refine rh1.of (rX26_isSolved_9 hh _ _ _ _ ?_)
      refine ⟨fun _ => rh1.s E1 ?_, fun z => by omega⟩
      refine rh1.of (rX26_isSolved_17 hh _ _ _ _ _ ?_)
      rw [y3 213 6 (by omega), h6, y3 218 e (by omega)]
      exact ⟨fun z => by omega, fun _ => ⟨⟨by omega, by omega⟩, ⟨by omega, by omega⟩, ⟨by omega, by omega⟩, rh1.s E2 HP⟩⟩
  exact rows n.toNat 0 A (by omega) (by decide) (fun a c a0 a1 => by omega) frx.rf
/-- the model's rows -/
def Smx (B : rhM) (sz : Int) (m : Nat) (e c : Int) : Int := if c = 8 then msum (B 174) sz (e + 1) sz.toNat else if c < m then pwr e (sz - 1 - B 176 c) else B 175 (9 * e + c)
theorem m_build (hm : rh_ms wm) {B : rhM} {n sz : Int} {m : Nat} (hm8 : m ≤ 8) (hn : 1 ≤ n ∧ n ≤ 8) (hz2 : 0 ≤ sz ∧ sz ≤ 15) (hp : ∀ c : Int, 0 ≤ c → c < m → 0 ≤ B 176 c ∧ B 176 c < sz) : ∃ X', eS wm YX32_solvePlaces 3 31 [(0, 2, 0), (1, 0, sz), (2, 0, n), (3, 0, m), (4, 0, 1)] [] B 31 [(0, 2, 0), (1, 0, sz), (2, 0, n), (3, 0, m), (4, 0, n + 1)] [] X' ∧ Mtx X' n (Smx B sz m) ∧ frx (fun c j => c = 175 ∧ j < 9 * n) B X' := by
  have rows : ∀ (u : Nat) (e : Int) (X : rhM), e + u = n → 0 ≤ e → (∀ a c, 0 ≤ a → a < n → 0 ≤ c → c < 9 → X 175 (9 * a + c) = if a < e then Smx B sz m a c else B 175 (9 * a + c)) → frx (fun c j => c = 175 ∧ j < 9 * n) B X → ∃ X', eS wm YX32_solvePlaces 3 31 [(0, 2, 0), (1, 0, sz), (2, 0, n), (3, 0, m), (4, 0, e + 1)] [] X 31 [(0, 2, 0), (1, 0, sz), (2, 0, n), (3, 0, m), (4, 0, n + 1)] [] X' ∧ Mtx X' n (Smx B sz m) ∧ frx (fun c j => c = 175 ∧ j < 9 * n) B X' := by
    intro u
    induction u with
    | zero =>
      intro e X he e0 h g
      have en : e = n := by omega
      rw [en] at h ⊢
      exact ⟨X, eS.rf, fun a c a0 a1 c0 c1 => by rw [h a c a0 a1 c0 c1, if_pos a1], g⟩
    | succ u ih =>
      intro e X he e0 h g
      have cols : ∀ (v : Nat) (c : Int) (Y : rhM), c + v = m → 0 ≤ c → (∀ a d, 0 ≤ a → a < n → 0 ≤ d → d < 9 → Y 175 (9 * a + d) = if a < e ∨ (a = e ∧ d < c) then Smx B sz m a d else B 175 (9 * a + d)) → frx (fun c j => c = 175 ∧ j < 9 * n) B Y → ∃ Y', eS wm YX32_solvePlaces 3 40 [(0, 2, 0), (1, 0, sz), (2, 0, n), (3, 0, m), (4, 0, e + 1), (5, 0, c)] [] Y 40 [(0, 2, 0), (1, 0, sz), (2, 0, n), (3, 0, m), (4, 0, e + 1), (5, 0, m)] [] Y' ∧ (∀ a d : Int, 0 ≤ a → a < n → 0 ≤ d → d < 9 → Y' 175 (9 * a + d) = if a < e ∨ (a = e ∧ d < m) then Smx B sz m a d else B 175 (9 * a + d)) ∧ frx (fun c j => c = 175 ∧ j < 9 * n) B Y' := by
        intro v
        induction v with
        | zero =>
          intro c Y hc c0 h1 g'
          have ec : c = m := by omega
          rw [ec] at h1 ⊢
          exact ⟨Y, eS.rf, h1, g'⟩
        | succ v iv =>
          intro c Y hc c0 h1 g'
          have pc := hp c c0 (by omega)
          have p := prd (a := e + 1) (b := sz - 1 - B 176 c) ⟨by omega, by omega⟩ ⟨by omega, by omega⟩
          have hv : Smx B sz m e c = gpw (((e + 1) * (sz - 1 - B 176 c)) % 15).toNat := by
            unfold Smx
            rw [if_neg (by omega), if_pos (show c < (m : Int) by omega)]
            rfl
          obtain ⟨Y', E, r⟩ := iv (c + 1) (rh_set Y 175 (9 * e + c) (Smx B sz m e c)) (by omega) (by omega) (fun a d a0 a1 d0 d1 => by
            by_cases ed : a = e ∧ d = c
            · rw [ed.1, ed.2, rh_set_s, if_pos (.inr ⟨rfl, by omega⟩)]
            · rw [rh_set_j (by omega), h1 a d a0 a1 d0 d1]
              by_cases l : a < e ∨ (a = e ∧ d < c)
              · rw [if_pos l, if_pos (by omega)]
              · rw [if_neg l, if_neg (by omega)]) (g'.st ⟨rfl, by omega⟩)
          refine ⟨Y', eS.of (fun P HP => ?_), r⟩
          refine rh1.of (rX32_solvePlaces_40 hm _ _ _ _ _ _ ?_)
          rw [g' 176 c (by omega)]
          refine ⟨fun _ => ⟨⟨by omega, by omega⟩, ?_⟩, fun z => by omega⟩
          refine rh1.s (eS.fx 0 (x := (e + 1) * (sz - 1 - B 176 c)) rfl ⟨by omega, by omega⟩ rfl) ?_
          refine rh1.s (eS.fx 1 (x := 9 * (e + 1 - 1) + c) rfl ⟨by omega, by omega⟩ rfl) ?_
          refine rh1.s (vX32_solvePlaces_74 (c_powerOf hm p.1 Y) (LE0 rfl)) ?_
          refine rh1.of (rX32_solvePlaces_77 hm _ _ _ _ _ _ _ _ ?_)
          rw [← hv, show 9 * (e + 1 - 1) + c = 9 * e + c by omega]
          exact ⟨⟨by omega, by omega⟩, ⟨by omega, by omega⟩, rh1.s E HP⟩
      obtain ⟨Y, E1, y1, y3⟩ := cols m 0 X (by omega) (by decide) (fun a d a0 a1 d0 d1 => by
        rw [h a d a0 a1 d0 d1]
        by_cases l : a < e
        · rw [if_pos l, if_pos (.inl l)]
        · rw [if_neg l, if_neg (by omega)]) g
      have K := c_sumWM hm (n := sz) (j := e + 1) hz2 ⟨by omega, by omega⟩ Y
      have e174 : Y 174 = B 174 := funext (fun i => y3 174 i (by omega))
      rw [e174] at K
      have hv : Smx B sz m e 8 = msum (B 174) sz (e + 1) sz.toNat := if_pos rfl
      rw [← hv] at K
      obtain ⟨X', E2, r⟩ := ih (e + 1) (rh_set Y 175 (9 * e + 8) (Smx B sz m e 8)) (by omega) (by omega) (fun a c a0 a1 c0 c1 => by
        by_cases ea : a = e ∧ c = 8
        · rw [ea.1, ea.2, rh_set_s, if_pos (by omega)]
        · rw [rh_set_j (by omega), y1 a c a0 a1 c0 c1]
          by_cases l : a < e ∨ (a = e ∧ c < (m : Int))
          · rw [if_pos l, if_pos (by omega)]
          · rw [if_neg l]
            by_cases l2 : a < e + 1
            · rw [if_pos l2]
              unfold Smx
              rw [if_neg (show ¬ c = 8 by omega), if_neg (show ¬ c < (m : Int) by omega)]
            · rw [if_neg l2]) (y3.st ⟨rfl, by omega⟩)
      refine ⟨X', eS.of (fun P HP => ?_), r⟩
      refine rh1.of (rX32_solvePlaces_31 hm _ _ _ _ _ ?_)
      refine ⟨fun _ => rh1.s E1 ?_, fun z => by omega⟩
      refine rh1.of (rX32_solvePlaces_40 hm _ _ _ _ _ _ ?_)
      refine ⟨fun z => by omega, fun _ => ?_⟩
      refine rh1.s (eS.fx 3 (x := 9 * (e + 1 - 1) + 8) rfl ⟨by omega, by omega⟩ rfl) ?_
      refine rh1.s (vX32_solvePlaces_102 hm K (LE0 rfl)) ?_
      refine rh1.of (rX32_solvePlaces_105 hm _ _ _ _ _ _ _ ?_)
      rw [show 9 * (e + 1 - 1) + 8 = 9 * e + 8 by omega]
      exact ⟨⟨by omega, by omega⟩, ⟨by omega, by omega⟩, rh1.s E2 HP⟩
  exact rows n.toNat 0 B (by omega) (by decide) (fun a c a0 a1 c0 c1 => by rw [if_neg (by omega)]) frx.rf
end Build
