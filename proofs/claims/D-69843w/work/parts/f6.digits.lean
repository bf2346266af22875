/-! ===== LAYER 2: bars: the digits of the tape ===== -/
section Digits
variable {wh wm : rhW}
def Fdg (c j : Int) : Prop := (c = 1 ∧ j = 3) ∨ (c = 3 ∧ j = 6) ∨ c = 250
def Gdg (c j : Int) : Prop := c = 167 ∨ (c = 0 ∧ (j = 2 ∨ j = 212))
def Dg2 (A B : rhM) (n : Int) : Prop := ∀ k, 0 ≤ k → k < n → A 250 k = B 167 k ∧ 0 ≤ B 167 k ∧ B 167 k ≤ 9
theorem hs_250 (hh : rh_hs wh) : rh_bl wh 6 250 14 := rh_bl.of (o := 250) (m := 14) hh (by decide +kernel)
theorem t_dig (hh : rh_hs wh) (hm : rh_ms wm) {A B : rhM} (T : Rtp A B) (x1 x2 x3 x4 x5 : Int) : ∃ o A' B', cO wh YX1_findDigits 2 [(2, 0)] A o A' ∧ ((o = none ∧ ∃ q, (0 ≤ q ∧ q ≤ 4096) ∧ A' 3 6 = q ∧ B' 0 2 = 0 ∧ ∀ P : Int → rhM → Prop, P (-1000 - q) B' → rh1 wm YX32_bars 3 41 [(0, 2, 0), (1, 0, x1), (2, 0, x2), (3, 0, x3), (4, 0, x4), (5, 0, x5), (6, 0, 0)] [] B P) ∨ ∃ n, o = some n ∧ (2 ≤ n ∧ n ≤ 14 ∧ n % 2 = 0) ∧ Dg2 A' B' n ∧ B' 0 212 = 0 ∧ ∀ P : Int → rhM → Prop, rh1 wm YX32_bars 3 157 [(0, 2, 0), (1, 0, x1), (2, 0, x2), (3, 0, x3), (4, 0, x4), (5, 0, x5), (6, 0, n), (7, 0, 0)] [] B' P → rh1 wm YX32_bars 3 41 [(0, 2, 0), (1, 0, x1), (2, 0, x2), (3, 0, x3), (4, 0, x4), (5, 0, x5), (6, 0, 0)] [] B P) ∧ frx Fdg A A' ∧ frx Gdg B B' := by
  obtain ⟨t1, t2, t3, t4⟩ := T
  obtain ⟨n, hn⟩ : ∃ n, B 0 2 = n := ⟨_, rfl⟩
  rw [hn] at t1 t2 t3 t4
  have key : ∀ (u : Nat) (k : Int) (A1 B1 : rhM), k + u = n → 0 ≤ k → k ≤ 14 → Dg2 A1 B1 k → A1 1 3 = k → frx Fdg A A1 → frx (fun c _ => c = 167) B B1 → ∃ o A' B', rx1 wh YX1_findDigits 2 8 [(0, 2, 0), (1, 0, n)] [] A1 (fun o' M' => o' = o ∧ M' = A') ∧ ((o = none ∧ ∃ q, (0 ≤ q ∧ q ≤ 4096) ∧ A' 3 6 = q ∧ B' 0 2 = 0 ∧ ∀ P : Int → rhM → Prop, P (-1000 - q) B' → rh1 wm YX32_bars 3 41 [(0, 2, 0), (1, 0, x1), (2, 0, x2), (3, 0, x3), (4, 0, x4), (5, 0, x5), (6, 0, k)] [] B1 P) ∨ ∃ n, o = some n ∧ (2 ≤ n ∧ n ≤ 14 ∧ n % 2 = 0) ∧ Dg2 A' B' n ∧ B' 0 212 = 0 ∧ ∀ P : Int → rhM → Prop, rh1 wm YX32_bars 3 157 [(0, 2, 0), (1, 0, x1), (2, 0, x2), (3, 0, x3), (4, 0, x4), (5, 0, x5), (6, 0, n), (7, 0, 0)] [] B' P → rh1 wm YX32_bars 3 41 [(0, 2, 0), (1, 0, x1), (2, 0, x2), (3, 0, x3), (4, 0, x4), (5, 0, x5), (6, 0, k)] [] B1 P) ∧ frx Fdg A A' ∧ frx Gdg B B' := by
    intro u
    induction u with
    | zero =>
      intro k A1 B1 hk k0 k14 D a13 fA gB
      have e : k = n := by omega
      rw [e] at k0 k14 D a13 ⊢
      have a12 : A1 1 2 = n := by rw [fA 1 2 (by unfold Fdg; omega)]; exact t1
      have b02 : B1 0 2 = n := by rw [gB 0 2 (by omega)]; exact hn
      have gB' : frx Gdg B B1 := gB.w (fun c j h => .inl h)
      by_cases ev : 0 < n ∧ n % 2 = 0
      case neg =>
        refine ⟨none, rh_set A1 3 6 n, rh_set B1 0 2 0, ?_, .inl ⟨rfl, n, by omega, rh_set_s _ _ _ _, rh_set_s _ _ _ _, fun P HP => ?_⟩, fA.st (by unfold Fdg; omega), gB'.st (by unfold Gdg; omega)⟩
        · refine rx1.of (rX1_findDigits_8 hh _ _ ?_)
          rw [a13, a12, rh_if_f ev]
          refine ⟨fun z => absurd rfl z, fun _ => ⟨fun _ => ⟨by omega, by omega⟩, ?_⟩⟩
          exact rx1.t (vtX1_findDigits_100 hh (c_mustT hh _) (LE0 rfl)) ⟨rfl, rfl⟩
        · refine rh1.of (rX32_bars_41 hm _ _ _ _ _ _ _ ?_)
          rw [b02]
          exact ⟨fun z => by omega, fun _ => ⟨fun _ => ⟨by omega, by omega⟩, fun _ => ⟨⟨by omega, by omega⟩, HP⟩, fun z => absurd (show n = 0 ∨ n % 2 = 1 by omega) z⟩⟩
      have KH := c_chkH hh (hs_250 hh) (n := n) ⟨by omega, by omega, by omega⟩ A1 (fun i i0 i1 => by rw [(D i i0 i1).1]; exact (D i i0 i1).2)
      have KM := c_chkM hm (ms_167 hm) (n := n) ⟨by omega, by omega, by omega⟩ B1 (fun i i0 i1 => (D i i0 i1).2)
      have ce : csm (A1 250) n n.toNat = csm (B1 167) n n.toNat := csm_e _ (fun i i0 i1 => (D i i0 (by omega)).1)
      rw [ce] at KH
      have SM : ∀ P : Int → rhM → Prop, rh1 wm YX32_bars 3 137 [(0, 2, 0), (1, 0, x1), (2, 0, x2), (3, 0, x3), (4, 0, x4), (5, 0, x5), (6, 0, n)] [(0, rh_if (csm (B1 167) n n.toNat % 10 = 0) 1 0)] B1 P → rh1 wm YX32_bars 3 41 [(0, 2, 0), (1, 0, x1), (2, 0, x2), (3, 0, x3), (4, 0, x4), (5, 0, x5), (6, 0, n)] [] B1 P := fun P HP => by
        refine rh1.of (rX32_bars_41 hm _ _ _ _ _ _ _ ?_)
        rw [b02]
        exact ⟨fun z => by omega, fun _ => ⟨fun _ => ⟨by omega, by omega⟩, fun z => by omega, fun _ => rh1.s (vX32_bars_134 KM (LE0 rfl)) HP⟩⟩
      by_cases ck : csm (B1 167) n n.toNat % 10 = 0
      · rw [rh_if_t ck] at KH SM
        refine ⟨some n, A1, rh_set B1 0 212 0, ?_, .inr ⟨n, rfl, ⟨by omega, by omega, by omega⟩, fun i i0 i1 => by rw [rh_set_a (by decide)]; exact D i i0 i1, rh_set_s _ _ _ _, fun P HP => SM P ?_⟩, fA, gB'.st (by unfold Gdg; omega)⟩
        · refine rx1.of (rX1_findDigits_8 hh _ _ ?_)
          rw [a13, a12, rh_if_t ev]
          refine ⟨fun z => absurd rfl z, fun _ => ⟨fun _ => ⟨by omega, by omega⟩, ?_⟩⟩
          refine rx1.g (vgX1_findDigits_100 hh (c_must hh (by decide) _) (LE0 rfl)) ?_
          refine rx1.of (rX1_findDigits_103 hh _ _ ?_)
          refine rx1.g (vgX1_findDigits_112 KH (LE0 rfl)) ?_
          refine rx1.of (rX1_findDigits_115 hh _ _ _ ?_)
          refine rx1.g (eG.fx 0 (x := n - 1) rfl ⟨by omega, by omega⟩ rfl) ?_
          refine rx1.g (vgX1_findDigits_118 hh (c_must hh (by decide) _) (LE0 rfl)) ?_
          refine rx1.of (rX1_findDigits_121 hh _ _ ?_)
          exact ⟨rfl, rfl⟩
        · refine rh1.of (rX32_bars_137 hm _ _ _ _ _ _ _ _ ?_)
          exact ⟨fun z => absurd z (by decide), fun _ => HP⟩
      · rw [rh_if_f ck] at KH SM
        refine ⟨none, rh_set A1 3 6 (n - 1), rh_set B1 0 2 0, ?_, .inl ⟨rfl, n - 1, by omega, rh_set_s _ _ _ _, rh_set_s _ _ _ _, fun P HP => SM P ?_⟩, fA.st (by unfold Fdg; omega), gB'.st (by unfold Gdg; omega)⟩
        · refine rx1.of (rX1_findDigits_8 hh _ _ ?_)
          rw [a13, a12, rh_if_t ev]
          refine ⟨fun z => absurd rfl z, fun _ => ⟨fun _ => ⟨by omega, by omega⟩, ?_⟩⟩
          refine rx1.g (vgX1_findDigits_100 hh (c_must hh (by decide) _) (LE0 rfl)) ?_
          refine rx1.of (rX1_findDigits_103 hh _ _ ?_)
          refine rx1.g (vgX1_findDigits_112 KH (LE0 rfl)) ?_
          refine rx1.of (rX1_findDigits_115 hh _ _ _ ?_)
          refine rx1.g (eG.fx 0 (x := n - 1) rfl ⟨by omega, by omega⟩ rfl) ?_
          exact rx1.t (vtX1_findDigits_118 hh (c_mustT hh _) (LE0 rfl)) ⟨rfl, rfl⟩
        · refine rh1.of (rX32_bars_137 hm _ _ _ _ _ _ _ _ ?_)
          exact ⟨fun _ => ⟨⟨by omega, by omega⟩, ⟨by omega, by omega⟩, HP⟩, fun z => absurd rfl z⟩
    | succ u ih =>
      intro k A1 B1 hk k0 k14 D a13 fA gB
      have a12 : A1 1 2 = n := by rw [fA 1 2 (by unfold Fdg; omega)]; exact t1
      have b02 : B1 0 2 = n := by rw [gB 0 2 (by omega)]; exact hn
      obtain ⟨v1, v2, v3⟩ := t4 k k0 (by omega)
      have ea : rh_and (A1 2 k) 255 = B 1 k := by rw [fA 2 k (by unfold Fdg; omega)]; exact v1
      have eb : B1 1 k = B 1 k := gB 1 k (by omega)
      have gB' : frx Gdg B B1 := gB.w (fun c j h => .inl h)
      have KN := c_next hh A1 a13 a12 ⟨by omega, by omega⟩ t3
      rw [ea] at KN
      by_cases ok : (48 ≤ B 1 k ∧ B 1 k ≤ 57) ∧ k < 14
      · have fA2 : frx Fdg A (rh_set (rh_set A1 1 3 (k + 1)) 250 k (B 1 k - 48)) := (fA.st (by unfold Fdg; omega)).st (by unfold Fdg; omega)
        obtain ⟨o, A', B', H1, H2, H3⟩ := ih (k + 1) (rh_set (rh_set A1 1 3 (k + 1)) 250 k (B 1 k - 48)) (rh_set B1 167 k (B 1 k - 48)) (by omega) (by omega) (by omega) (fun i i0 i1 => by
          by_cases e : i = k
          · rw [e, rh_set_s, rh_set_s]; omega
          · rw [rh_set_j e, rh_set_j e, rh_set_a (by decide)]
            exact D i i0 (by omega)) (by rw [rh_set_a (by decide), rh_set_s]) fA2 (gB.st rfl)
        have SM : ∀ P : Int → rhM → Prop, rh1 wm YX32_bars 3 41 [(0, 2, 0), (1, 0, x1), (2, 0, x2), (3, 0, x3), (4, 0, x4), (5, 0, x5), (6, 0, k + 1)] [] (rh_set B1 167 k (B 1 k - 48)) P → rh1 wm YX32_bars 3 41 [(0, 2, 0), (1, 0, x1), (2, 0, x2), (3, 0, x3), (4, 0, x4), (5, 0, x5), (6, 0, k)] [] B1 P := fun P HP => by
          refine rh1.of (rX32_bars_41 hm _ _ _ _ _ _ _ ?_)
          rw [b02, eb]
          exact ⟨fun _ => ⟨⟨by omega, by omega⟩, fun z => by omega, fun _ => ⟨⟨by omega, by omega⟩, ⟨by omega, by omega⟩, ⟨by omega, by omega⟩, ⟨by omega, by omega⟩, HP⟩⟩, fun z => by omega⟩
        refine ⟨o, A', B', ?_, ?_, H3⟩
        · refine rx1.of (rX1_findDigits_8 hh _ _ ?_)
          rw [a13, a12]
          refine ⟨fun _ => ?_, fun z => absurd (show k ≠ n by omega) z⟩
          refine rx1.g (vgX1_findDigits_30 hh KN (LE0 rfl)) ?_
          refine rx1.of (rX1_findDigits_33 hh _ _ _ _ ?_)
          rw [rh_if_t ok]
          refine rx1.g (vgX1_findDigits_64 hh (c_must hh (by decide) _) (LE0 rfl)) ?_
          refine rx1.of (rX1_findDigits_67 hh _ _ _ _ ?_)
          exact ⟨⟨by omega, by omega⟩, ⟨by omega, by omega⟩, H1⟩
        · rcases H2 with ⟨z1, q, z2, z3, z4, z5⟩ | ⟨n', z1, z2, z3, z4, z5⟩
          · exact .inl ⟨z1, q, z2, z3, z4, fun P HP => SM P (z5 P HP)⟩
          · exact .inr ⟨n', z1, z2, z3, z4, fun P HP => SM P (z5 P HP)⟩
      · refine ⟨none, rh_set (rh_set A1 1 3 (k + 1)) 3 6 k, rh_set B1 0 2 0, ?_, .inl ⟨rfl, k, by omega, rh_set_s _ _ _ _, rh_set_s _ _ _ _, fun P HP => ?_⟩, (fA.st (by unfold Fdg; omega)).st (by unfold Fdg; omega), gB'.st (by unfold Gdg; omega)⟩
        · refine rx1.of (rX1_findDigits_8 hh _ _ ?_)
          rw [a13, a12]
          refine ⟨fun _ => ?_, fun z => absurd (show k ≠ n by omega) z⟩
          refine rx1.g (vgX1_findDigits_30 hh KN (LE0 rfl)) ?_
          refine rx1.of (rX1_findDigits_33 hh _ _ _ _ ?_)
          rw [rh_if_f ok]
          exact rx1.t (vtX1_findDigits_64 hh (c_mustT hh _) (LE0 rfl)) ⟨rfl, rfl⟩
        · refine rh1.of (rX32_bars_41 hm _ _ _ _ _ _ _ ?_)
          rw [b02, eb]
          exact ⟨fun _ => ⟨⟨by omega, by omega⟩, fun _ => ⟨⟨by omega, by omega⟩, HP⟩, fun z => absurd (show (¬ (48 ≤ B 1 k ∧ B 1 k ≤ 57)) ∨ k = 14 by omega) z⟩, fun z => by omega⟩
  obtain ⟨o, A', B', H1, H2, H3⟩ := key n.toNat 0 (rh_set A 1 3 0) B (by omega) (by decide) (by decide) (fun i i0 i1 => by omega) (rh_set_s _ _ _ _) (frx.rf.st (by unfold Fdg; omega)) frx.rf
  have C : rCx wh YX1_findDigits 2 [(2, 0)] A (fun o' M' => o' = o ∧ M' = A') := rCx.of (by decide) (LE0 rfl) (by
    refine rx1.of (rX1_findDigits_0 hh _ ?_)
    rw [t1]
    exact H1)
  obtain ⟨o', M', c1, c2, c3⟩ := C
  rw [c2, c3] at c1
  exact ⟨o, A', B', c1, H2, H3⟩
end Digits
