/-! ===== LAYER 2: the sums of a word, the house ===== -/
section SumUp
variable {wh wm : rhW}
/-- a word with its blanks at nought -/
noncomputable def zw (A : rhM) (i : Int) : Int := rh_if (A 216 i = 16) 0 (A 216 i)
theorem c_sumUp (hh : rh_hs wh) {A : rhM} {n sz : Int} (R : Rmn A) (hn : 0 ≤ n ∧ n ≤ 8) (hz : A 213 3 = sz) (hz2 : 0 ≤ sz ∧ sz ≤ 15) (hw : ∀ i, 0 ≤ i → i < sz → 0 ≤ A 216 i ∧ A 216 i ≤ 16) : ∃ A', eC wh YX26_sumUp 1 [(2, 213), (0, n)] A 0 A' ∧ (∀ e, 0 ≤ e → e < n → A' 218 e = msum (zw A) sz (e + 1) sz.toNat) ∧ frx (fun c _ => c = 218) A A' := by
  have one : ∀ (e : Int), 0 ≤ e → e < n → ∀ (u i : Nat) (X : rhM), (i : Int) + u = sz → X 218 e = msum (zw A) sz (e + 1) i → frx (fun c _ => c = 218) A X → ∃ X', eS wh YX26_sumUp 1 16 [(0, 2, 213), (1, 0, n), (2, 0, e), (3, 0, (i : Int))] [] X 16 [(0, 2, 213), (1, 0, n), (2, 0, e), (3, 0, sz)] [] X' ∧ X' 218 e = msum (zw A) sz (e + 1) sz.toNat ∧ (∀ j, j ≠ e → X' 218 j = X 218 j) ∧ frx (fun c _ => c = 218) A X' := by
    intro e e0 e1 u
    induction u with
    | zero =>
      intro i X hi h g
      rw [show (i : Int) = sz by omega]
      exact ⟨X, eS.rf, by rw [h, show sz.toNat = i by omega], fun _ _ => rfl, g⟩
    | succ u ih =>
      intro i X hi h g
      have p := prd (a := e + 1) (b := sz - 1 - i) ⟨by omega, by omega⟩ ⟨by omega, by omega⟩
      have RX : Rmn X := ⟨fun i i0 i1 => by rw [g 214 i (by omega)]; exact R.1 i i0 i1, fun i i0 i1 => by rw [g 215 i (by omega)]; exact R.2 i i0 i1⟩
      have w := wt_e RX p.1
      have x1 := Int.emod_nonneg ((e + 1) * (sz - 1 - (i : Int))) (show (15 : Int) ≠ 0 by decide)
      have x2 := Int.emod_lt_of_pos ((e + 1) * (sz - 1 - (i : Int))) (show (0 : Int) < 15 by decide)
      have hi' := hw i (by omega) (by omega)
      have e6 : X 216 i = A 216 i := g 216 i (by omega)
      obtain ⟨pw, hpw⟩ : ∃ pw, pw = gpw (((e + 1) * (sz - 1 - (i : Int))) % 15).toNat := ⟨_, rfl⟩
      rw [← hpw] at w
      have pr : 0 ≤ pw ∧ pw < 16 := by omega
      have ev : rh_if (A 216 i = 16) (0 : Int) (rh_if (A 216 i = 0 ∨ pw = 0) (0 : Int) (X 214 (X 215 (A 216 i) + X 215 pw))) = gfm (zw A i) pw := by
        unfold zw
        by_cases q : A 216 i = 16
        · rw [rh_if_t q, rh_if_t q, (gfm_0 pr).1]
        · rw [rh_if_f q, rh_if_f q]
          exact (tm_e RX ⟨by omega, by omega⟩ pr).1
      have em : rh_xor (msum (zw A) sz (e + 1) i) (gfm (zw A i) pw) = msum (zw A) sz (e + 1) (i + 1) := by rw [hpw]; rfl
      obtain ⟨X', E, h1, h2, h3⟩ := ih (i + 1) (rh_set X 218 e (msum (zw A) sz (e + 1) (i + 1))) (by omega) (rh_set_s _ _ _ _) (g.st rfl)
      refine ⟨X', eS.of (fun P HP => ?_), h1, fun j hj => by rw [h2 j hj, rh_set_j hj], h3⟩
      refine rh1.of (rX26_sumUp_16 hh _ _ _ _ ?_)
      rw [g 213 3 (by omega), hz, e6, h, w.1, ev, em]
      refine ⟨fun _ => ⟨⟨by omega, by omega⟩, ⟨by omega, by omega⟩, fun _ => ⟨by omega, by omega⟩, fun _ => ⟨by omega, by omega⟩, fun _ => ⟨by omega, by omega⟩, fun _ => ⟨by omega, by omega⟩, fun _ => ⟨by omega, by omega⟩, fun q _ => ⟨by omega, by omega⟩, fun _ _ => pr, fun q y => (tm_e RX (a := A 216 i) (b := pw) ⟨by omega, by omega⟩ pr).2 y, ?_⟩, fun z => by omega⟩
      (intro zq hzq; replace hzq := hzq.symm; subst hzq)
      refine ⟨⟨by omega, by omega⟩, ⟨by omega, by omega⟩, ?_⟩
      rw [show (i : Int) + 1 = ((i + 1 : Nat) : Int) by omega]
      exact rh1.s E HP
  have key : ∀ (u : Nat) (e : Int) (X : rhM), e + u = n → 0 ≤ e → (∀ j, 0 ≤ j → j < e → X 218 j = msum (zw A) sz (j + 1) sz.toNat) → frx (fun c _ => c = 218) A X → ∃ X', (∀ P : Int → rhM → Prop, P 0 X' → rh1 wh YX26_sumUp 1 2 [(0, 2, 213), (1, 0, n), (2, 0, e)] [] X P) ∧ (∀ j, 0 ≤ j → j < n → X' 218 j = msum (zw A) sz (j + 1) sz.toNat) ∧ frx (fun c _ => c = 218) A X' := by
    intro u
    induction u with
    | zero =>
      intro e X he e0 h g
      refine ⟨X, fun P HP => ?_, fun j j0 j1 => h j j0 (by omega), g⟩
      refine rh1.of (rX26_sumUp_2 hh _ _ _ ?_)
      exact ⟨fun z => by omega, fun _ => HP⟩
    | succ u ih =>
      intro e X he e0 h g
      obtain ⟨Y, E, y1, y2, y3⟩ := one e e0 (by omega) sz.toNat 0 (rh_set X 218 e 0) (by omega) (rh_set_s _ _ _ _) (g.st rfl)
      obtain ⟨X', H, r⟩ := ih (e + 1) Y (by omega) (by omega) (fun j j0 j1 => by
        by_cases z : j = e
        · rw [z]; exact y1
        · rw [y2 j z, rh_set_j z]; exact h j j0 (by omega)) y3
      refine ⟨X', fun P HP => ?_, r⟩
      refine rh1.of (rX26_sumUp_2 hh _ _ _ ?_)
      refine ⟨fun _ => ⟨⟨by omega, by omega⟩, rh1.s E ?_⟩, fun z => by omega⟩
      refine rh1.of (rX26_sumUp_16 hh _ _ _ _ ?_)
      rw [y3 213 3 (by omega), hz]
      exact ⟨fun z => by omega, fun _ => ⟨⟨by omega, by omega⟩, H P HP⟩⟩
  obtain ⟨A', H, h, g⟩ := key n.toNat 0 A (by omega) (by decide) (fun j j0 j1 => by omega) frx.rf
  refine ⟨A', eC.of1 (rC1.of (by decide) (LE0 rfl) ?_), h, g⟩
  refine rh1.of (rX26_sumUp_0 hh _ _ ?_)
  exact H _ ⟨rfl, rfl⟩
end SumUp
