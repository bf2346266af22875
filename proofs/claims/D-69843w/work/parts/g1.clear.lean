/-! ===== LAYER 2: systems over the field: clearing a column (house), reducing (model) ===== -/
section Clear
variable {wh wm : rhW}
def R16 (x : Int) : Prop := 0 ≤ x ∧ x < 16
/-- a row that is cleared by the pivot's row -/
def clr (H : Int → Int → Int) (k j c : Int) : Int := if j = k then H k c else rh_xor (H j c) (gfm (gfm (H j k) (giv (H k k))) (H k c))
theorem mix {w h a b a' b' : Int} (hb : 0 ≤ b ∧ b < w) (hb' : 0 ≤ b' ∧ b' < w) (e : w * a + b = w * a' + b') : a = a' ∧ b = b' := by
  have h1 : a = a' := by
    rcases Int.lt_trichotomy a a' with l | l | l
    · have := Int.mul_le_mul_of_nonneg_left (show a + 1 ≤ a' by omega) (show 0 ≤ w by omega)
      rw [Int.mul_add, Int.mul_one] at this
      omega
    · exact l
    · have := Int.mul_le_mul_of_nonneg_left (show a' + 1 ≤ a by omega) (show 0 ≤ w by omega)
      rw [Int.mul_add, Int.mul_one] at this
      omega
  exact ⟨h1, by rw [h1] at e; omega⟩
theorem mxi {w n a b : Int} (hw : 0 ≤ w ∧ w ≤ 9) (hn : n ≤ 8) (ha : 0 ≤ a ∧ a < n) (hb : 0 ≤ b ∧ b < w) : 0 ≤ w * a + b ∧ w * a + b < 72 := by
  have h1 := mul_lt (a := w) (b := n) (x := b) (y := a) hb.1 hb.2 ha.1 ha.2
  have h2 := Int.mul_nonneg hw.1 ha.1
  have h3 := Int.mul_le_mul hw.2 hn (by omega) (by decide : (0 : Int) ≤ 9)
  omega
/-- one row: the columns that are left -/
theorem h_clrR (hh : rh_hs wh) {A : rhM} {H : Int → Int → Int} {k w n j f : Int} (R : Rmn A) (hw : 1 ≤ w ∧ w ≤ 9) (hn : 1 ≤ n ∧ n ≤ 8) (hk : 0 ≤ k ∧ k < n ∧ k < w) (hj : 0 ≤ j ∧ j < n) (hjk : j ≠ k) (hf : R16 f) (f0 : f ≠ 0) (hH : ∀ a c, 0 ≤ a → a < n → 0 ≤ c → c < w → R16 (H a c)) : ∀ (u : Nat) (c : Int) (X : rhM), c + u = w → 0 ≤ c → (∀ d, 0 ≤ d → d < w → X 219 (w * k + d) = H k d) → (∀ d, c ≤ d → d < w → X 219 (w * j + d) = H j d) → frx (fun c _ => c = 219) A X → ∃ X', eS wh YX26_clear 1 49 [(0, 2, 213), (1, 0, k), (2, 0, w), (3, 0, n), (4, 0, j), (5, 0, f), (6, 0, c)] [] X 49 [(0, 2, 213), (1, 0, k), (2, 0, w), (3, 0, n), (4, 0, j), (5, 0, f), (6, 0, w)] [] X' ∧ (∀ d, c ≤ d → d < w → X' 219 (w * j + d) = rh_xor (H j d) (gfm f (H k d))) ∧ (∀ i, (∀ d, c ≤ d → d < w → i ≠ w * j + d) → X' 219 i = X 219 i) ∧ frx (fun c _ => c = 219) A X' := by
  intro u
  induction u with
  | zero =>
    intro c X hc c0 h1 h2 g
    have e : c = w := by omega
    rw [e]
    exact ⟨X, eS.rf, fun d d0 d1 => by omega, fun _ _ => rfl, g⟩
  | succ u ih =>
    intro c X hc c0 h1 h2 g
    have m1 := mxi (w := w) (n := n) (a := j) (b := c) ⟨by omega, by omega⟩ hn.2 hj ⟨by omega, by omega⟩
    have m2 := mxi (w := w) (n := n) (a := k) (b := c) ⟨by omega, by omega⟩ hn.2 ⟨by omega, by omega⟩ ⟨by omega, by omega⟩
    have RX : Rmn X := ⟨fun i i0 i1 => by rw [g 214 i (by omega)]; exact R.1 i i0 i1, fun i i0 i1 => by rw [g 215 i (by omega)]; exact R.2 i i0 i1⟩
    have hk' := hH k c (by omega) (by omega) c0 (by omega)
    have t := tm_e RX hf hk'
    have nej : ∀ d, 0 ≤ d → d < w → w * k + d ≠ w * j + c := fun d d0 d1 e => hjk (mix (h := 0) ⟨d0, d1⟩ ⟨c0, by omega⟩ e).1.symm
    obtain ⟨X', E, x1, x2, x3⟩ := ih (c + 1) (rh_set X 219 (w * j + c) (rh_xor (H j c) (gfm f (H k c)))) (by omega) (by omega) (fun d d0 d1 => by rw [rh_set_j (nej d d0 d1)]; exact h1 d d0 d1) (fun d d0 d1 => by rw [rh_set_j (by omega)]; exact h2 d (by omega) d1) (g.st rfl)
    refine ⟨X', eS.of (fun P HP => ?_), fun d d0 d1 => ?_, fun i hi => ?_, x3⟩
    · refine rh1.of (rX26_clear_49 hh _ _ _ _ _ _ _ ?_)
      rw [h1 c c0 (by omega), h2 c (by omega) (by omega), t.1]
      refine ⟨fun _ => ⟨⟨by omega, by omega⟩, ⟨by omega, by omega⟩, fun _ => hf, fun _ => hk', t.2, ?_⟩, fun z => absurd ⟨by omega, f0⟩ z⟩
      (intro zq hzq; replace hzq := hzq.symm; subst hzq)
      exact ⟨⟨by omega, by omega⟩, ⟨by omega, by omega⟩, rh1.s E HP⟩
    · by_cases e : d = c
      · rw [e, x2 _ (fun d' d0' d1' => by omega), rh_set_s]
      · exact x1 d (by omega) d1
    · rw [x2 i (fun d d0 d1 => hi d (by omega) d1), rh_set_j (hi c (by omega) (by omega))]
theorem c_clearH (hh : rh_hs wh) {A : rhM} {H : Int → Int → Int} {k w n : Int} (R : Rmn A) (hw : 1 ≤ w ∧ w ≤ 9) (hn : 1 ≤ n ∧ n ≤ 8) (hk : 0 ≤ k ∧ k < n ∧ k < w) (hH : ∀ a c, 0 ≤ a → a < n → 0 ≤ c → c < w → R16 (H a c)) (hA : ∀ a c, 0 ≤ a → a < n → 0 ≤ c → c < w → A 219 (w * a + c) = H a c) (hp : H k k ≠ 0) : ∃ A', eC wh YX26_clear 1 [(2, 213), (0, k), (0, w), (0, n)] A 0 A' ∧ (∀ a c, 0 ≤ a → a < n → 0 ≤ c → c < w → A' 219 (w * a + c) = clr H k a c) ∧ frx (fun c _ => c = 219) A A' := by
  have hkk := hH k k hk.1 hk.2.1 hk.1 hk.2.2
  have hkk1 : 1 ≤ H k k ∧ H k k < 16 := by unfold R16 at hkk; omega
  have gi := (giv_e hkk1).1
  have key : ∀ (u : Nat) (j : Int) (X : rhM), j + u = n → 0 ≤ j → (∀ a c, 0 ≤ a → a < j → 0 ≤ c → c < w → X 219 (w * a + c) = clr H k a c) → (∀ a c, j ≤ a → a < n → 0 ≤ c → c < w → X 219 (w * a + c) = H a c) → frx (fun c _ => c = 219) A X → ∃ X', eS wh YX26_clear 1 3 [(0, 2, 213), (1, 0, k), (2, 0, w), (3, 0, n), (4, 0, j)] [] X 3 [(0, 2, 213), (1, 0, k), (2, 0, w), (3, 0, n), (4, 0, n)] [] X' ∧ (∀ a c, 0 ≤ a → a < n → 0 ≤ c → c < w → X' 219 (w * a + c) = clr H k a c) ∧ frx (fun c _ => c = 219) A X' := by
    intro u
    induction u with
    | zero =>
      intro j X hj j0 h1 h2 g
      have e : j = n := by omega
      rw [e] at h1 ⊢
      exact ⟨X, eS.rf, h1, g⟩
    | succ u ih =>
      intro j X hj j0 h1 h2 g
      have ck : ∀ c, clr H k k c = H k c := fun c => if_pos rfl
      have hkX : ∀ d, 0 ≤ d → d < w → X 219 (w * k + d) = H k d := fun d d0 d1 => by
        by_cases l : k < j
        · rw [h1 k d hk.1 l d0 d1, ck]
        · exact h2 k d (by omega) hk.2.1 d0 d1
      by_cases e : j = k
      · obtain ⟨X', E, r⟩ := ih (j + 1) X (by omega) (by omega) (fun a c a0 a1 c0 c1 => by
          by_cases ea : a = j
          · rw [ea, e, ck]; exact hkX c c0 c1
          · exact h1 a c a0 (by omega) c0 c1) (fun a c a0 a1 c0 c1 => h2 a c (by omega) a1 c0 c1) g
        refine ⟨X', eS.of (fun P HP => ?_), r⟩
        refine rh1.of (rX26_clear_3 hh _ _ _ _ _ ?_)
        refine ⟨fun _ => ⟨fun _ => ?_, fun z => absurd e z⟩, fun z => by omega⟩
        (intro zq hzq; replace hzq := hzq.symm; subst hzq)
        refine rh1.of (rX26_clear_49 hh _ _ _ _ _ _ _ ?_)
        exact ⟨fun z => absurd rfl z.2, fun _ => ⟨⟨by omega, by omega⟩, rh1.s E HP⟩⟩
      · have RX : Rmn X := ⟨fun i i0 i1 => by rw [g 214 i (by omega)]; exact R.1 i i0 i1, fun i i0 i1 => by rw [g 215 i (by omega)]; exact R.2 i i0 i1⟩
        have hjk := hH j k j0 (by omega) hk.1 hk.2.2
        have t := by_e2 RX hjk hkk1
        have m1 := mxi (w := w) (n := n) (a := j) (b := k) ⟨by omega, by omega⟩ hn.2 ⟨by omega, by omega⟩ ⟨hk.1, hk.2.2⟩
        have m2 := mxi (w := w) (n := n) (a := k) (b := k) ⟨by omega, by omega⟩ hn.2 ⟨hk.1, hk.2.1⟩ ⟨hk.1, hk.2.2⟩
        obtain ⟨f, hf⟩ : ∃ f, f = gfm (H j k) (giv (H k k)) := ⟨_, rfl⟩
        have fr : R16 f := by rw [hf]; exact gfm_r hjk ⟨by omega, by omega⟩
        have start : ∀ P : Int → rhM → Prop, rh1 wh YX26_clear 1 49 [(0, 2, 213), (1, 0, k), (2, 0, w), (3, 0, n), (4, 0, j), (5, 0, f), (6, 0, 0)] [] X P → rh1 wh YX26_clear 1 3 [(0, 2, 213), (1, 0, k), (2, 0, w), (3, 0, n), (4, 0, j)] [] X P := fun P HP => by
          refine rh1.of (rX26_clear_3 hh _ _ _ _ _ ?_)
          rw [h2 j k (by omega) (by omega) hk.1 hk.2.2, hkX k hk.1 hk.2.2, t.1, ← hf]
          refine ⟨fun _ => ⟨fun z => absurd z e, fun _ => ⟨⟨by omega, by omega⟩, ⟨by omega, by omega⟩, fun _ => hjk, fun _ => hkk, t.2, ?_⟩⟩, fun z => by omega⟩
          (intro zq hzq; replace hzq := hzq.symm; subst hzq)
          exact HP
        have cj : ∀ c, clr H k j c = rh_xor (H j c) (gfm f (H k c)) := fun c => by rw [hf]; exact if_neg e
        by_cases f0 : f = 0
        · obtain ⟨X', E, r⟩ := ih (j + 1) X (by omega) (by omega) (fun a c a0 a1 c0 c1 => by
            by_cases ea : a = j
            · rw [ea, cj, f0, (gfm_0 (hH k c hk.1 hk.2.1 c0 c1)).1, (xor_0 (hH j c j0 (by omega) c0 c1)).2.1]
              exact h2 j c (by omega) (by omega) c0 c1
            · exact h1 a c a0 (by omega) c0 c1) (fun a c a0 a1 c0 c1 => h2 a c (by omega) a1 c0 c1) g
          refine ⟨X', eS.of (fun P HP => start P ?_), r⟩
          refine rh1.of (rX26_clear_49 hh _ _ _ _ _ _ _ ?_)
          exact ⟨fun z => absurd f0 z.2, fun _ => ⟨⟨by omega, by omega⟩, rh1.s E HP⟩⟩
        · obtain ⟨X1, E1, x1, x2, x3⟩ := h_clrR hh (j := j) R hw hn hk ⟨by omega, by omega⟩ e fr f0 hH w.toNat 0 X (by omega) (by decide) hkX (fun d d0 d1 => h2 j d (by omega) (by omega) d0 d1) g
          have oth : ∀ a c, a ≠ j → 0 ≤ c → c < w → X1 219 (w * a + c) = X 219 (w * a + c) := fun a c na c0 c1 => x2 _ (fun d d0 d1 ed => na (mix (h := 0) ⟨c0, c1⟩ ⟨d0, d1⟩ ed).1)
          obtain ⟨X', E, r⟩ := ih (j + 1) X1 (by omega) (by omega) (fun a c a0 a1 c0 c1 => by
            by_cases ea : a = j
            · rw [ea, cj]; exact x1 c c0 c1
            · rw [oth a c ea c0 c1]; exact h1 a c a0 (by omega) c0 c1) (fun a c a0 a1 c0 c1 => by rw [oth a c (by omega) c0 c1]; exact h2 a c (by omega) a1 c0 c1) x3
          refine ⟨X', eS.of (fun P HP => start P (rh1.s E1 ?_)), r⟩
          refine rh1.of (rX26_clear_49 hh _ _ _ _ _ _ _ ?_)
          exact ⟨fun z => by omega, fun _ => ⟨⟨by omega, by omega⟩, rh1.s E HP⟩⟩
  obtain ⟨A', E, h, g⟩ := key n.toNat 0 A (by omega) (by decide) (fun a c a0 a1 => by omega) (fun a c a0 a1 c0 c1 => hA a c a0 a1 c0 c1) frx.rf
  refine ⟨A', eC.of1 (rC1.of (by decide) (LE0 rfl) ?_), h, g⟩
  refine rh1.of (rX26_clear_0 hh _ _ _ _ ?_)
  refine rh1.s E ?_
  refine rh1.of (rX26_clear_3 hh _ _ _ _ _ ?_)
  exact ⟨fun z => by omega, fun _ => ⟨rfl, rfl⟩⟩
end Clear
