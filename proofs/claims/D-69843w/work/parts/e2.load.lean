/-! ===== LAYER 2: the store: load ===== -/
section Load
variable {wh wm : rhW}
theorem szb {u v : Int} (hu : 1 ≤ u ∧ u ≤ 128) (hv : 1 ≤ v ∧ v ≤ 96) : 0 ≤ u * v ∧ u * v ≤ 12288 := by
  have := mulb (show 0 ≤ u by omega) hu.2 (show 0 ≤ v by omega) hv.2
  omega
theorem h_loadB (hh : rh_hs wh) {x1 x2 w h p N : Int} {f : Int → Int} (hx : 0 ≤ x1 ∧ x1 < 41) (hN : w * h = N) (n0 : 0 ≤ N ∧ N ≤ 6144) (hp : 0 ≤ p ∧ p + 5 + N ≤ 40000) : ∀ (u : Nat) (k : Int) (A : rhM), k + u = N → 0 ≤ k → A 235 x1 = p → (∀ j, 0 ≤ j → j < N → rh_and (A 234 (p + (5 + j))) 255 = f j ∧ 0 ≤ f j ∧ f j ≤ 255) → ∃ A', eS wh YX1_load 3 124 [(0, 2, 0), (1, 0, x1), (2, 0, x2), (3, 0, w), (4, 0, h), (5, 0, k)] [] A 124 [(0, 2, 0), (1, 0, x1), (2, 0, x2), (3, 0, w), (4, 0, h), (5, 0, N)] [] A' ∧ frx (fun c j => c = 9 ∧ k ≤ j) A A' ∧ ∀ j, k ≤ j → j < N → A' 9 j = rh_i2b (f j) := by
  intro u
  induction u with
  | zero =>
    intro k A hk k0 h1 h2
    have e : k = N := by omega
    rw [e]
    exact ⟨A, eS.rf, frx.rf, fun j j0 j1 => by omega⟩
  | succ u ih =>
    intro k A hk k0 h1 h2
    have f1 : frx (fun c j => c = 9 ∧ k ≤ j) A (rh_set A 9 k (rh_i2b (f k))) := frx.rf.st (by omega)
    obtain ⟨A', E, F, v⟩ := ih (k + 1) (rh_set A 9 k (rh_i2b (f k))) (by omega) (by omega) (by rw [rh_set_a (by decide)]; exact h1) (fun j j0 j1 => by rw [rh_set_a (by decide)]; exact h2 j j0 j1)
    refine ⟨A', eS.of (fun P HP => ?_), f1.tr (F.w (fun c j h => by omega)), fun j j0 j1 => ?_⟩
    · refine rh1.of (rX1_load_124 hh _ _ _ _ _ _ ?_)
      rw [hN, h1, (h2 k (by omega) (by omega)).1]
      refine ⟨⟨by omega, by omega⟩, fun _ => ⟨⟨by omega, by omega⟩, hx, ⟨by omega, by omega⟩, ?_⟩, fun z => by omega⟩
      (intro zq hzq; replace hzq := hzq.symm; subst hzq)
      exact ⟨⟨by omega, by omega⟩, rh_i2b_rg _, ⟨by omega, by omega⟩, rh1.s E HP⟩
    · by_cases e : j = k
      · rw [e, F 9 k (by omega), rh_set_s]
      · exact v j (by omega) j1
theorem m_loadB (hm : rh_ms wm) {x2 p N : Int} (n0 : 0 ≤ N ∧ N ≤ 6144) (hp : 0 ≤ p ∧ p + 5 + N ≤ 40000) : ∀ (u : Nat) (k : Int) (B : rhM), k + u = N → 0 ≤ k → ∃ B', eS wm YX32_load 2 128 [(0, 2, 0), (2, 0, x2), (3, 0, p), (6, 0, N), (7, 0, k)] [] B 128 [(0, 2, 0), (2, 0, x2), (3, 0, p), (6, 0, N), (7, 0, N)] [] B' ∧ frx (fun c j => c = 6 ∧ k ≤ j) B B' ∧ ∀ j, k ≤ j → j < N → B' 6 j = B 196 (p + 5 + j) := by
  intro u
  induction u with
  | zero =>
    intro k B hk k0
    have e : k = N := by omega
    rw [e]
    exact ⟨B, eS.rf, frx.rf, fun j j0 j1 => by omega⟩
  | succ u ih =>
    intro k B hk k0
    have f1 : frx (fun c j => c = 6 ∧ k ≤ j) B (rh_set B 6 k (B 196 (p + 5 + k))) := frx.rf.st (by omega)
    obtain ⟨B', E, F, v⟩ := ih (k + 1) (rh_set B 6 k (B 196 (p + 5 + k))) (by omega) (by omega)
    refine ⟨B', eS.of (fun P HP => ?_), f1.tr (F.w (fun c j h => by omega)), fun j j0 j1 => ?_⟩
    · refine rh1.of (rX32_load_128 hm _ _ _ _ _ ?_)
      exact ⟨fun _ => ⟨⟨by omega, by omega⟩, ⟨by omega, by omega⟩, ⟨by omega, by omega⟩, rh1.s E HP⟩, fun z => by omega⟩
    · by_cases e : j = k
      · rw [e, F 6 k (by omega), rh_set_s]
      · rw [v j (by omega) j1, rh_set_a (by decide)]
theorem op_load (hh : rh_hs wh) (hm : rh_ms wm) {Mh Mm : rhM} (G : Rpg Mh Mm) (R : Rst Mh Mm) (x1 x2 : Int) : rC2 wh YX1_load 3 [(2, 0), (0, x1), (0, x2)] Mh wm YX32_load 2 [(2, 0), (0, x1), (0, x2)] Mm (fun r M' r2 M2' => r = r2 ∧ Pres Mh Mm M' M2') := by
  refine rC2.of (by decide) (LE0 rfl) (by decide) (LE0 rfl) ?_
  have f0 : frx Gw Mm (rh_set Mm 0 0 0) := frx.rf.st (by unfold Gw; omega)
  have R0 := R.n0
  obtain ⟨M0, hM0⟩ : ∃ M0, M0 = rh_set Mm 0 0 0 := ⟨_, rfl⟩
  rw [← hM0] at R0 f0
  have r1 := R0.1
  refine rh2.l (rX1_load_0 hh _ _ _ ?_)
  rw [r1.1]
  refine ⟨⟨by omega, by omega⟩, fun c => ?_, fun c => ?_⟩
  · refine rh1.of (rX32_load_0 hm _ _ _ ?_)
    rw [← hM0]
    exact ⟨⟨by omega, by omega⟩, fun _ => ⟨rfl, .inl ⟨frx.rf, f0⟩⟩, fun z => absurd c z⟩
  have c1 : 0 ≤ x1 ∧ x1 ≤ M0 0 252 - 1 := Classical.byContradiction (fun z => c (.inl z))
  have c2 : 0 ≤ x2 ∧ x2 ≤ 7 := Classical.byContradiction (fun z => c (.inr z))
  obtain ⟨⟨a1, a2⟩, a3, a4⟩ := R0.at c1
  obtain ⟨v, hv, K1, K2⟩ := c_right hh hm R0 c1
  obtain ⟨p, hp⟩ : ∃ p, M0 197 x1 = p := ⟨_, rfl⟩
  obtain ⟨e, he⟩ : ∃ e, M0 197 (x1 + 1) = e := ⟨_, rfl⟩
  rw [hp] at a1 a3 a4
  rw [he] at a2 a3 a4
  obtain ⟨u0, t0, -⟩ := a4 0 (by decide) (by omega)
  obtain ⟨u3, t3, -⟩ := a4 3 (by decide) (by omega)
  obtain ⟨u4, t4, -⟩ := a4 4 (by decide) (by omega)
  rw [a1, u0, u3, u4]
  rw [show p + 0 = p by omega] at t0 ⊢
  refine ⟨⟨by omega, by omega⟩, ⟨by omega, by omega⟩, fun _ => ⟨by omega, by omega⟩, fun _ => ⟨by omega, by omega⟩, ?_⟩
  intro w hw
  refine ⟨⟨by omega, by omega⟩, ⟨by omega, by omega⟩, fun _ => ⟨by omega, by omega⟩, fun _ => ⟨by omega, by omega⟩, ?_⟩
  intro h hh'
  refine rh2.sl (vX1_load_76 hh K1 (LE0 rfl)) ?_
  refine rh2.l (rX1_load_79 hh _ _ _ _ _ _ ?_)
  rw [a1, a2]
  refine ⟨fun _ s1 s2 => by have := szb s1 s2; exact ⟨by omega, by omega⟩, fun _ _ => ⟨by omega, by omega⟩, fun _ _ => ⟨by omega, by omega⟩, fun _ _ => ⟨by omega, by omega⟩, fun _ _ => ⟨by omega, by omega⟩, fun _ s => by have := szb s.1 s.2.1; exact ⟨by omega, by omega⟩, fun bad => ?_, fun good => ?_⟩
  · -- it is none
    by_cases k0 : M0 196 p = 0
    · rw [rh_if_t k0] at hw hh'
      refine rh1.of (rX32_load_0 hm _ _ _ ?_)
      rw [← hM0, hp, he]
      refine ⟨⟨by omega, by omega⟩, fun z => absurd z c, fun _ => ⟨⟨by omega, by omega⟩, ?_⟩⟩
      (intro zq hzq; replace hzq := hzq.symm; subst hzq)
      refine ⟨⟨by omega, by omega⟩, ⟨by omega, by omega⟩, ⟨by omega, by omega⟩, ?_⟩
      (intro zq hzq; replace hzq := hzq.symm; subst hzq)
      refine ⟨⟨by omega, by omega⟩, ⟨by omega, by omega⟩, fun _ => ?_, fun z => absurd k0 z⟩
      refine rh1.s (vX32_load_46 hm K2 (LE0 rfl)) ?_
      refine rh1.of (rX32_load_49 hm _ _ _ _ _ ?_)
      rw [← hw, ← hh']
      refine ⟨fun _ _ => ⟨by omega, by omega⟩, fun _ _ => ⟨by omega, by omega⟩, fun _ _ s1 s2 => by have := szb s1 s2; exact ⟨by omega, by omega⟩, fun _ _ _ => ⟨by omega, by omega⟩, fun _ _ _ => ⟨by omega, by omega⟩, fun _ _ s => by have := szb s.1 s.2.1; exact ⟨by omega, by omega⟩, ?_⟩
      rw [rh_if_f (fun z => bad.elim z.1 (fun b => b.elim (fun b1 => b1 z.2.2.1) (fun b2 => b2 (by have := z.2.2.2; omega))))]
      (intro zq hzq; replace hzq := hzq.symm; subst hzq)
      exact ⟨fun _ => ⟨rfl, .inl ⟨frx.rf, f0⟩⟩, fun z => absurd rfl z⟩
    · refine rh1.of (rX32_load_0 hm _ _ _ ?_)
      rw [← hM0, hp, he]
      refine ⟨⟨by omega, by omega⟩, fun z => absurd z c, fun _ => ⟨⟨by omega, by omega⟩, ?_⟩⟩
      (intro zq hzq; replace hzq := hzq.symm; subst hzq)
      refine ⟨⟨by omega, by omega⟩, ⟨by omega, by omega⟩, ⟨by omega, by omega⟩, ?_⟩
      (intro zq hzq; replace hzq := hzq.symm; subst hzq)
      refine ⟨⟨by omega, by omega⟩, ⟨by omega, by omega⟩, fun z => absurd z k0, fun _ => ?_⟩
      (intro zq hzq; replace hzq := hzq.symm; subst hzq)
      exact ⟨fun _ => ⟨rfl, .inl ⟨frx.rf, f0⟩⟩, fun z => absurd rfl z⟩
  · have v1 : v ≠ 0 := fun z => good (.inl z)
    have sz : ((1 ≤ w ∧ w ≤ 128) ∧ ((1 ≤ h ∧ h ≤ 96) ∧ w * h ≤ 6144)) := Classical.byContradiction (fun z => good (.inr (.inl z)))
    have ln : e - p - 3 - 2 = 2 + w * h := Classical.byContradiction (fun z => good (.inr (.inr z)))
    have k0 : M0 196 p = 0 := Classical.byContradiction (fun z => by rw [rh_if_f z] at hw; omega)
    rw [rh_if_t k0] at hw hh'
    have mb := szb sz.1 sz.2.1
    obtain ⟨N, hN⟩ : ∃ N, w * h = N := ⟨_, rfl⟩
    rw [hN] at sz ln mb
    obtain ⟨A1, hA1⟩ : ∃ A1, A1 = rh_set (rh_set Mh 8 1 w) 8 2 h := ⟨_, rfl⟩
    have hpg : 0 ≤ x2 ∧ x2 < 8 := by omega
    obtain ⟨A2, E1, F1, w9⟩ := h_loadB hh (x1 := x1) (x2 := x2) (w := w) (h := h) (p := p) (N := N) (f := fun j => M0 196 (p + (5 + j))) ⟨by omega, by omega⟩ hN ⟨by omega, by omega⟩ ⟨by omega, by omega⟩ N.toNat 0 A1 (by omega) (by decide) (by rw [hA1, rh_set_a (by decide), rh_set_a (by decide)]; exact a1) (fun j j0 j1 => by
      rw [hA1, rh_set_a (by decide), rh_set_a (by decide)]
      have := a4 (5 + j) (by omega) (by omega)
      exact ⟨this.1, this.2.1⟩)
    have z1 : A2 8 1 = w := by rw [F1 8 1 (by omega), hA1, rh_set_j (by decide), rh_set_s]
    have z2 : A2 8 2 = h := by rw [F1 8 2 (by omega), hA1, rh_set_s]
    have FA : frx Hw Mh A2 := by
      rw [hA1] at F1
      exact ((frx.rf.st (by unfold Hw; omega)).st (by unfold Hw; omega)).tr (F1.w (fun a j h => by unfold Hw; omega))
    obtain ⟨B1, E2, F2, w6⟩ := m_loadB hm (x2 := x2) (p := p) (N := N) ⟨by omega, by omega⟩ ⟨by omega, by omega⟩ N.toNat 0 M0 (by omega) (by decide)
    have FB : frx Gw Mm B1 := f0.tr (F2.w (fun a j h => by unfold Gw; omega))
    rw [← hA1]
    refine rh2.sl E1 ?_
    refine rh2.l (rX1_load_124 hh _ _ _ _ _ _ ?_)
    rw [hN]
    refine ⟨⟨by omega, by omega⟩, fun z => by omega, fun _ => ⟨⟨by omega, by omega⟩, ?_⟩⟩
    refine rh2.sl (vX1_load_172 (hs_pg hh hpg.1 hpg.2) (c_lay hh (hs_pg hh hpg.1 hpg.2) (hs_sh hh) (by omega) A2 (by rw [z1, z2, hN]; omega) (by rw [z1, z2, hN]; omega)) (LE0 rfl)) ?_
    refine rh2.l (rX1_load_175 hh _ _ _ ?_)
    rw [hN]
    refine ⟨⟨by omega, by omega⟩, ?_⟩
    refine rh1.of (rX32_load_0 hm _ _ _ ?_)
    rw [← hM0, hp, he]
    refine ⟨⟨by omega, by omega⟩, fun z => absurd z c, fun _ => ⟨⟨by omega, by omega⟩, ?_⟩⟩
    (intro zq hzq; replace hzq := hzq.symm; subst hzq)
    refine ⟨⟨by omega, by omega⟩, ⟨by omega, by omega⟩, ⟨by omega, by omega⟩, ?_⟩
    (intro zq hzq; replace hzq := hzq.symm; subst hzq)
    refine ⟨⟨by omega, by omega⟩, ⟨by omega, by omega⟩, fun _ => ?_, fun z => absurd k0 z⟩
    refine rh1.s (vX32_load_46 hm K2 (LE0 rfl)) ?_
    refine rh1.of (rX32_load_49 hm _ _ _ _ _ ?_)
    rw [← hw, ← hh', hN]
    refine ⟨fun _ _ => ⟨by omega, by omega⟩, fun _ _ => ⟨by omega, by omega⟩, fun _ _ _ _ => ⟨by omega, by omega⟩, fun _ _ _ => ⟨by omega, by omega⟩, fun _ _ _ => ⟨by omega, by omega⟩, fun _ _ s => ⟨by omega, by omega⟩, ?_⟩
    rw [rh_if_t ⟨v1, by omega, sz, by omega⟩]
    (intro zq hzq; replace hzq := hzq.symm; subst hzq)
    refine ⟨fun z => by omega, fun _ => ⟨⟨by omega, by omega⟩, ?_⟩⟩
    rw [show e - p - 5 - 2 = N by omega]
    refine rh1.s E2 ?_
    refine rh1.of (rX32_load_128 hm _ _ _ _ _ ?_)
    rw [F2 196 (p + 3) (by omega), F2 196 (p + 4) (by omega), ← hw, ← hh']
    refine ⟨fun z => by omega, fun _ => ⟨⟨by omega, by omega⟩, ⟨by omega, by omega⟩, ?_⟩⟩
    refine rh1.s (vX32_load_177 hm (c_bec hm hpg B1 (by rw [hN]; omega) (by rw [hN]; omega)) (LE0 rfl)) ?_
    refine rh1.of (rX32_load_180 hm _ _ ?_)
    refine ⟨rfl, .inr ⟨x2, hpg, Laid.mk G hpg FA FB ⟨z1, z2, by omega, by omega, by omega, by omega, by rw [hN]; omega, by rw [hN]; omega, by omega, fun j j0 j1 => ?_⟩ (by omega)⟩⟩
    rw [hN] at j1
    have := a4 (5 + j) (by omega) (by omega)
    rw [w9 j j0 j1, w6 j j0 j1, show p + 5 + j = p + (5 + j) by omega, b255 this.2.1.1 this.2.1.2]
    exact ⟨rfl, this.2.1⟩
end Load
