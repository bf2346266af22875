/-! ===== LAYER 2: pictures told as text ===== -/
section PictT
variable {wh wm : rhW}
def Fpc (c j : Int) : Prop := (c = 1 ∧ j = 3) ∨ (c = 3 ∧ j = 6) ∨ c = 22 ∨ c = 8 ∨ c = 9
def Gpk (c j : Int) : Prop := (c = 0 ∧ (10 ≤ j ∧ j ≤ 12)) ∨ c = 6
theorem frx.np {A A' : rhM} (f : frx Fnu A A') : frx Fpc A A' := f.w (fun c j h => by unfold Fnu at h; unfold Fpc; omega)
theorem frx.nq {A A' : rhM} (f : frx Gnu A A') : frx Gpk A A' := f.w (fun c j h => by unfold Gnu at h; unfold Gpk; omega)
/-- how a picture was read, on both sides -/
def Ppc (p : Int) (A B : rhM) (o : Option Int) (A' : rhM) (_r : Int) (B' : rhM) : Prop := frx Fpc A A' ∧ ((o = none ∧ (0 ≤ B' 0 11 ∧ B' 0 11 ≤ 4096) ∧ A' 3 6 = B' 0 11 ∧ frx Gpk B B') ∨ (o = some 0 ∧ ∃ (W H : Int) (M2 : rhM), B' = m_bec M2 p W H ∧ M2 0 11 = -1 ∧ frx Gpk B M2 ∧ Rsp A' M2 W H ∧ 0 < W))
theorem Ppc.flt {p q r s : Int} {A B A' B' : rhM} (fA : frx Fpc A A') (gB : frx Gpk B B') (h1 : A' 3 6 = q) (h2 : B' 0 11 = q) (hq : 0 ≤ q ∧ q ≤ 4096) : Ppc p A B none A' r (rh_set B' 0 10 s) := by
  have e : rh_set B' 0 10 s 0 11 = q := by rw [rh_set_j (by decide)]; exact h2
  exact ⟨fA, .inl ⟨rfl, by rw [e]; exact hq, by rw [e]; exact h1, gB.st (by unfold Gpk; omega)⟩⟩
theorem c_overT (hh : rh_hs wh) (M : rhM) (h : ¬ M 1 3 = M 1 2) : tC wh YX2_mustBeOver 2 [(2, 1)] M (rh_set M 3 6 (M 1 3)) :=
  tC.of1 (rCx.of (by decide) (LE0 rfl) (by
    refine rx1.of (rX2_mustBeOver_0 hh _ ?_)
    rw [rh_if_f h]
    exact rx1.t (vtX2_mustBeOver_9 hh (c_mustT hh _) (LE0 rfl)) ⟨rfl, rfl⟩))
theorem c_over (hh : rh_hs wh) (M : rhM) (h : M 1 3 = M 1 2) : eC wh YX2_mustBeOver 2 [(2, 1)] M 0 M :=
  eC.of1 (rC1.of (by decide) (LE0 rfl) (by
    refine rh1.of (rX2_mustBeOver_0 hh _ ?_)
    rw [rh_if_t h]
    refine rh1.s (vX2_mustBeOver_9 hh (c_must hh (by decide) _) (LE0 rfl)) ?_
    refine rh1.of (rX2_mustBeOver_12 hh _ ?_)
    exact ⟨rfl, rfl⟩))
/-- the model after a fault -/
theorem m_textF (hh : rh_hs wh) (hm : rh_ms wm) {v : Int → Int} {N p w h g k : Int} {A B : rhM} (T : Tq v N A B) (hB : 0 ≤ B 0 10 ∧ B 0 10 ≤ N) (hq : ¬ B 0 11 = -1) (hw : 0 ≤ w ∧ w ≤ 9999) (hv : 0 ≤ h ∧ h ≤ 9999) (P : Int → rhM → Prop) (HP : ∀ s, P 0 (rh_set B 0 10 s)) : rh1 wm YX32_textPicture 3 62 [(0, 2, 0), (1, 0, p), (2, 0, w), (3, 0, h), (4, 0, g), (5, 0, k)] [] B P := by
  have m0 : 0 ≤ w * h := mul_nn hw.1 hv.1
  have m1 : w * h ≤ 9999 * 9999 := Int.mul_le_mul hw.2 hv.2 hv.1 (by decide)
  obtain ⟨s, -, -, E2⟩ := t_skip hh hm (A := rh_set A 1 3 (B 0 10)) (B := B) (T.fx (rh_set_j (by decide)) (rh_set_n (by decide)) rfl rfl) (rh_set_s _ _ _ _) rfl hB.1 hB.2
  have hq2 : ¬ rh_set B 0 10 s 0 11 = -1 := by rw [rh_set_j (by decide)]; exact hq
  refine rh1.of (rX32_textPicture_62 hm _ _ _ _ _ _ ?_)
  refine ⟨⟨by omega, by omega⟩, fun z => absurd z.2 hq, fun _ => rh1.s (vX32_textPicture_122 hm E2 (LE0 rfl)) ?_⟩
  refine rh1.of (rX32_textPicture_125 hm _ _ _ _ ?_)
  refine ⟨fun z => absurd z.1 hq2, fun _ M3 e3 => ?_⟩
  subst e3
  exact ⟨fun z => absurd z hq2, fun _ => HP s⟩
/-- a number must stand here, and none does -/
theorem h_numB (hh : rh_hs wh) (hm : rh_ms wm) {v : Int → Int} {N e lo hi : Int} {A B : rhM} (T : Tq v N A B) (hA : A 1 3 = e) (hB : B 0 10 = e) (e0 : 0 ≤ e) (e1 : e ≤ N) (nb : ¬ Pbl (lkq v N e)) (nd : ¬ Dgq (lkq v N e)) : ∃ A', tC wh YX13_readNumber 2 [(2, 22), (0, lo), (0, hi)] A A' ∧ A' 3 6 = e ∧ frx Fnu A A' := by
  obtain ⟨o, A', x, B', C, -, f, e', -, -, ff, fA, -, -, cs⟩ := t_num hh hm (lo := lo) (hi := hi) (hj := hi) T hA hB e0 e1 (Int.le_refl _)
  have fe := ff nb
  rcases cs with ⟨rfl, c1, -⟩ | ⟨-, c1, -⟩
  · exact ⟨A', C, c1.trans fe, fA⟩
  · rw [fe] at c1
    exact absurd c1 nd
theorem h_textB (hh : rh_hs wh) (hm : rh_ms wm) {v : Int → Int} {N e g k n : Int} {A B : rhM} (T : Tq v N A B) (hA : A 1 3 = e) (hB : B 0 10 = e) (e0 : 0 ≤ e) (e1 : e < N) (nb : ¬ Pbl (lkq v N e)) (nd : ¬ Dgq (lkq v N e)) (hn : A 8 1 * A 8 2 = n) (n1 : 0 ≤ n ∧ n ≤ 6144) : ∃ A', tA wh YX13_read 3 73 [(0, 2, 22), (1, 2, 8), (3, 0, g), (4, 0, k)] [] A A' ∧ A' 3 6 = e ∧ frx Fpc A A' := by
  have bl := hs_sh hh
  by_cases c : k < n
  · obtain ⟨A', C, a1, fA⟩ := h_numB hh hm (lo := 0) (hi := g) T hA hB e0 (by omega) nb nd
    refine ⟨A', ?_, a1, fA.np⟩
    have H : rx1 wh YX13_read 3 73 [(0, 2, 22), (1, 2, 8), (3, 0, g), (4, 0, k)] [] A (fun o M => o = none ∧ M = A') := by
      refine rx1.of (rX13_read_73 hh _ _ _ _ bl ?_)
      rw [hn]
      exact ⟨⟨by omega, by omega⟩, fun _ => rx1.t (vtX13_read_85 hh C (LE0 rfl)) ⟨rfl, rfl⟩, fun z => absurd c z⟩
    obtain ⟨o, M, q1, rfl, rfl⟩ := H
    exact q1
  · obtain ⟨s, ⟨-, -, se⟩, E1, -⟩ := t_skip hh hm T hA hB e0 (by omega)
    have se := se nb
    rw [se] at E1
    refine ⟨rh_set (rh_set A 1 3 e) 3 6 e, ?_, rh_set_s _ _ _ _, (frx.rf.st (by unfold Fpc; omega)).st (by unfold Fpc; omega)⟩
    have H : rx1 wh YX13_read 3 73 [(0, 2, 22), (1, 2, 8), (3, 0, g), (4, 0, k)] [] A (fun o M => o = none ∧ M = rh_set (rh_set A 1 3 e) 3 6 e) := by
      refine rx1.of (rX13_read_73 hh _ _ _ _ bl ?_)
      rw [hn]
      refine ⟨⟨by omega, by omega⟩, fun z => absurd z c, fun _ => rx1.g (vgX13_read_113 hh E1 (LE0 rfl)) ?_⟩
      refine rx1.of (rX13_read_116 hh _ ?_)
      have K := c_overT hh (rh_set A 1 3 e) (by rw [rh_set_s, rh_set_j (by decide), T.1.1]; omega)
      rw [rh_set_s] at K
      exact rx1.t (vtX13_read_120 hh K (LE0 rfl)) ⟨rfl, rfl⟩
    obtain ⟨o, M, q1, rfl, rfl⟩ := H
    exact q1
theorem Tq.pc {v : Int → Int} {N : Int} {A B A' B' : rhM} (T : Tq v N A B) (f : frx Fpc A A') (g : frx Gpk B B') : Tq v N A' B' :=
  T.fx (f 1 2 (by unfold Fpc; omega)) (f.cell (fun j => by unfold Fpc; omega)) (g 0 2 (by unfold Gpk; omega)) (g.cell (fun j => by unfold Gpk; omega))
/-- the pixels so far -/
def Pxl (A B : rhM) (k : Int) : Prop := ∀ i : Int, 0 ≤ i → i < k → rh_and (A 9 i) 255 = B 6 i ∧ 0 ≤ B 6 i ∧ B 6 i ≤ 255
theorem Pxl.st {A B : rhM} {k x y : Int} (h : Pxl A B k) (e : rh_and x 255 = y) (y0 : 0 ≤ y ∧ y ≤ 255) : Pxl (rh_set A 9 k x) (rh_set B 6 k y) (k + 1) := by
  intro i i0 i1
  by_cases c : i = k
  · subst c
    rw [rh_set_s, rh_set_s]
    exact ⟨e, y0⟩
  · rw [rh_set_j c, rh_set_j c]
    exact h i i0 (by omega)
theorem Pxl.fx {A B A' B' : rhM} {k : Int} (h : Pxl A B k) (f : A' 9 = A 9) (g : B' 6 = B 6) : Pxl A' B' k := by
  intro i i0 i1
  rw [f, g]
  exact h i i0 i1
theorem t_textL (hh : rh_hs wh) (hm : rh_ms wm) {v : Int → Int} {N p W H g : Int} {A B : rhM} (hp : 0 ≤ p ∧ p < 8) (T : Tq v N A B) (hW : 1 ≤ W ∧ W ≤ 128) (hH : 1 ≤ H ∧ H ≤ 96) (hn : 0 ≤ W * H ∧ W * H ≤ 6144) (hg : 1 ≤ g ∧ g ≤ 255) : ∀ (u : Nat) (k e : Int) (A1 B1 : rhM), k + u = W * H → 0 ≤ k → A1 1 3 = e → B1 0 10 = e → 0 ≤ e → e ≤ N → B1 0 11 = -1 → A1 8 1 = W → A1 8 2 = H → Pxl A1 B1 k → frx Fpc A A1 → frx Gpk B B1 → rx2 wh YX13_read 3 73 [(0, 2, 22), (1, 2, 8), (3, 0, g), (4, 0, k)] [] A1 wm YX32_textPicture 3 62 [(0, 2, 0), (1, 0, p), (2, 0, W), (3, 0, H), (4, 0, g), (5, 0, k)] [] B1 (Ppc p A B) := by
  have bl := hs_sh hh
  intro u
  induction u with
  | zero =>
    intro k e A1 B1 hu k0 a1 b1 e0 e1 b2 a2 a3 px fA gB
    have T1 := T.pc fA gB
    obtain ⟨s, ⟨s0, -, -⟩, E1, E2⟩ := t_skip hh hm T1 a1 b1 e0 e1
    have b3 : rh_set B1 0 10 s 0 11 = -1 := by rw [rh_set_j (by decide)]; exact b2
    have gB2 : frx Gpk B (rh_set B1 0 10 s) := gB.st (by unfold Gpk; omega)
    have fA2 : frx Fpc A (rh_set A1 1 3 s) := fA.st (by unfold Fpc; omega)
    have T2 := T.pc fA2 gB2
    refine rx2.l (rX13_read_73 hh _ _ _ _ bl ?_)
    rw [a2, a3]
    refine ⟨⟨by omega, by omega⟩, fun z => by omega, fun _ => ?_⟩
    refine rx2.gl (vgX13_read_113 hh E1 (LE0 rfl)) ?_
    refine rx2.l (rX13_read_116 hh _ ?_)
    refine rx2.r (rX32_textPicture_62 hm _ _ _ _ _ _ ?_)
    refine ⟨⟨by omega, by omega⟩, fun z => by omega, fun _ => ?_⟩
    refine rx2.sr (vX32_textPicture_122 hm E2 (LE0 rfl)) ?_
    by_cases c : s < N
    · have K := c_overT hh (rh_set A1 1 3 s) (by rw [T2.1.1, rh_set_s]; omega)
      rw [rh_set_s] at K
      refine rx2.t (vtX13_read_120 hh K (LE0 rfl)) ?_
      refine rh1.of (rX32_textPicture_125 hm _ _ _ _ ?_)
      rw [b3, rh_set_s, T2.1.2.1]
      refine ⟨fun _ M3 e3 => ?_, fun z => absurd ⟨rfl, c⟩ z⟩
      have e4 : M3 0 11 = s := by rw [e3, rh_set_s]
      rw [e4]
      refine ⟨fun z => by omega, fun _ => ?_⟩
      refine ⟨fA2.st (by unfold Fpc; omega), .inl ⟨rfl, by rw [e4]; have := T2.1.2.2.2; omega, by rw [e4, rh_set_s], ?_⟩⟩
      rw [e3]
      exact gB2.st (by unfold Gpk; omega)
    · have K := c_over hh (rh_set A1 1 3 s) (by rw [T2.1.1, rh_set_s]; omega)
      refine rx2.gl (vgX13_read_120 hh K (LE0 rfl)) ?_
      refine rx2.l (rX13_read_123 hh _ ?_)
      refine rh1.of (rX32_textPicture_125 hm _ _ _ _ ?_)
      rw [b3, rh_set_s, T2.1.2.1]
      refine ⟨fun z => absurd z.2 c, fun _ M3 e3 => ?_⟩
      have e4 : M3 0 11 = -1 := by rw [e3]; exact b3
      rw [e4]
      refine ⟨fun _ => ?_, fun z => absurd rfl z⟩
      rw [e3]
      refine rh1.s (vX32_textPicture_164 hm (c_bec hm hp (rh_set B1 0 10 s) hn.1 hn.2) (LE0 rfl)) ?_
      refine rh1.of (rX32_textPicture_167 hm _ ?_)
      refine ⟨fA2, .inr ⟨rfl, W, H, rh_set B1 0 10 s, rfl, b3, gB2, ⟨?_, ?_, (by omega), (by omega), (by omega), (by omega), hn.1, hn.2, fun _ => (by omega), ?_⟩, (by omega)⟩⟩
      · rw [rh_set_a (by decide)]; exact a2
      · rw [rh_set_a (by decide)]; exact a3
      · intro i i0 i1
        exact (px.fx (rh_set_n (by decide)) (rh_set_n (by decide))) i i0 (by omega)
  | succ u ih =>
    intro k e A1 B1 hu k0 a1 b1 e0 e1 b2 a2 a3 px fA gB
    have T1 := T.pc fA gB
    have t4 := T1.1.2.2.2
    refine rx2.l (rX13_read_73 hh _ _ _ _ bl ?_)
    rw [a2, a3]
    refine ⟨⟨by omega, by omega⟩, fun _ => ?_, fun z => by omega⟩
    refine rx2.r (rX32_textPicture_62 hm _ _ _ _ _ _ ?_)
    refine ⟨⟨by omega, by omega⟩, fun _ => ?_, fun z => absurd ⟨(by omega), b2⟩ z⟩
    obtain ⟨o, A2, x, B2, C, D, f, e2, hfe, hx, ff, fA2, gB2, h10, cs⟩ := t_num hh hm (lo := 0) (hi := g) (hj := g) T1 a1 b1 e0 e1 (Int.le_refl _)
    have fA' : frx Fpc A A2 := fA.tr fA2.np
    have gB' : frx Gpk B B2 := gB.tr gB2.nq
    refine rx2.sr (vX32_textPicture_82 hm D (LE0 rfl)) ?_
    -- the model when a fault was found
    have MF : ∀ (P : Int → rhM → Prop), ¬ B2 0 11 = -1 → (∀ s, P 0 (rh_set (rh_set B2 6 k 0) 0 10 s)) → rh1 wm YX32_textPicture 3 85 [(0, 2, 0), (1, 0, p), (2, 0, W), (3, 0, H), (4, 0, g), (5, 0, k)] [(0, x)] B2 P := fun P h hP => by
      refine rh1.of (rX32_textPicture_85 hm _ _ _ _ _ _ _ ?_)
      refine ⟨fun z => absurd z h, fun z => absurd z h, fun y ey => ?_⟩
      rw [rh_if_f h] at ey
      rw [ey]
      refine ⟨⟨by omega, by omega⟩, ⟨by omega, by omega⟩, ?_⟩
      have gB3 : frx Gpk B (rh_set B2 6 k 0) := gB'.st (by unfold Gpk; omega)
      exact m_textF hh hm (T.pc fA' gB3) (by rw [rh_set_a (by decide)]; exact h10) (by rw [rh_set_a (by decide)]; exact h) ⟨by omega, by omega⟩ ⟨by omega, by omega⟩ P hP
    have gB3 : frx Gpk B (rh_set B2 6 k 0) := gB'.st (by unfold Gpk; omega)
    rcases cs with ⟨rfl, c1, c2⟩ | ⟨rfl, c1, ⟨c2, c3, c4, c5⟩, c6, c7⟩
    · refine rx2.t (vtX13_read_85 hh C (LE0 rfl)) ?_
      exact MF _ (by omega) (fun s => Ppc.flt fA' gB3 c1 (by rw [rh_set_a (by decide)]; exact c2) ⟨by omega, by omega⟩)
    · refine rx2.gl (vgX13_read_85 hh C (LE0 rfl)) ?_
      have d0 : 0 ≤ x * 255 / g := Int.ediv_nonneg (by omega) (by omega)
      have d1 : x * 255 / g ≤ 255 := Int.ediv_le_of_le_mul (by omega) (by omega)
      have bb := b255 (v := x * 255 / g) d0 d1
      have w1 : A2 8 1 = W := by rw [fA2 8 1 (by unfold Fnu; omega)]; exact a2
      have w2 : A2 8 2 = H := by rw [fA2 8 2 (by unfold Fnu; omega)]; exact a3
      have px2 : Pxl A2 B2 k := px.fx (fA2.cell (fun j => by unfold Fnu; omega)) (gB2.cell (fun j => by unfold Gnu; omega))
      refine rx2.l (rX13_read_88 hh _ _ _ _ bl ?_)
      rw [c2]
      refine ⟨⟨by omega, by omega⟩, ⟨by omega, by omega⟩, fun y ey => ⟨⟨by omega, by omega⟩, ?_, ⟨by omega, by omega⟩, ?_⟩⟩
      · rw [ey]; exact rh_i2b_rg _
      rw [ey]
      have fA3 : frx Fpc A (rh_set A2 9 k (rh_i2b (x * 255 / g))) := fA'.st (by unfold Fpc; omega)
      rcases c7 with c7 | ⟨c7, ⟨c8, c9⟩ | ⟨c8, c9, c10, c11⟩⟩
      · omega
      · rw [b2] at c9
        refine rx2.r (rX32_textPicture_85 hm _ _ _ _ _ _ _ ?_)
        refine ⟨fun _ => ⟨by omega, by omega⟩, fun _ => ⟨by omega, by omega⟩, fun q eq => ?_⟩
        rw [rh_if_t c9] at eq
        rw [eq]
        refine ⟨⟨by omega, by omega⟩, ⟨by omega, by omega⟩, ?_⟩
        refine ih (k + 1) e2 _ _ (by omega) (by omega) (by rw [rh_set_a (by decide)]; exact c4) (by rw [rh_set_a (by decide)]; exact c5) (by omega) (by omega) (by rw [rh_set_a (by decide)]; exact c9) (by rw [rh_set_a (by decide)]; exact w1) (by rw [rh_set_a (by decide)]; exact w2) (px2.st bb ⟨by omega, by omega⟩) fA3 (gB'.st (by unfold Gpk; omega))
      · obtain ⟨A4, q1, q2, q3⟩ := h_textB hh hm (g := g) (k := k + 1) (n := W * H) (T.pc fA3 gB') (by rw [rh_set_a (by decide)]; exact c4) c5 (by omega) c10 c8 c9 (by rw [rh_set_a (by decide), rh_set_a (by decide), w1, w2]) hn
        refine rx2.t q1 ?_
        exact MF _ (by omega) (fun s => Ppc.flt (fA3.tr q3) gB3 q2 (by rw [rh_set_a (by decide)]; exact c11) ⟨by omega, by omega⟩)
theorem t_text (hh : rh_hs wh) (hm : rh_ms wm) {v : Int → Int} {N p : Int} {A B : rhM} (hp : 0 ≤ p ∧ p < 8) (T : Tq v N A B) (hA : A 1 3 = 0) (hB : B 0 10 = 0) (hw : B 0 11 = -1) : rCy wh YX13_read 3 [(2, 22), (2, 8)] A wm YX32_textPicture 3 [(2, 0), (0, p)] B (Ppc p A B) := by
  have bl := hs_sh hh
  refine rCy.of (by decide) (LE0 rfl) (by decide) (LE0 rfl) ?_
  have t3 := T.1.2.2.1
  have t4 := T.1.2.2.2
  refine rx2.l (rX13_read_0 hh _ _ bl ?_)
  refine rx2.r (rX32_textPicture_0 hm _ _ ?_)
  obtain ⟨o, A2, w, B2, C, D, f, e, hfe, hx, -, fA, gB, h10, cs⟩ := t_num hh hm (lo := 1) (hi := 128) (hj := 128) T hA hB (by decide) t3 (by decide)
  have T2 := T.nu fA gB
  refine rx2.sr (vX32_textPicture_5 hm D (LE0 rfl)) ?_
  have MF : ∀ (P : Int → rhM → Prop), ¬ B2 0 11 = -1 → (∀ s, P 0 (rh_set B2 0 10 s)) → rh1 wm YX32_textPicture 3 8 [(0, 2, 0), (1, 0, p)] [(0, w)] B2 P := fun P h hP => by
    refine rh1.of (rX32_textPicture_8 hm _ _ _ ?_)
    exact ⟨fun z => absurd z h, fun _ => ⟨fun z => absurd z h, fun _ => m_textF hh hm T2 h10 h hx ⟨by omega, by omega⟩ P hP⟩⟩
  rcases cs with ⟨rfl, c1, c2⟩ | ⟨rfl, c1, ⟨c2, c3, c4, c5⟩, c6, c7⟩
  · refine rx2.t (vtX13_read_5 hh C (LE0 rfl)) ?_
    exact MF _ (by omega) (fun s => Ppc.flt fA.np gB.nq c1 c2 ⟨by omega, by omega⟩)
  refine rx2.gl (vgX13_read_5 hh C (LE0 rfl)) ?_
  refine rx2.l (rX13_read_8 hh _ _ bl ?_)
  rw [c2]
  rcases c7 with c7 | ⟨c7, ⟨c8, c9⟩ | ⟨c8, c9, c10, c11⟩⟩
  · omega
  case inr.inr =>
    obtain ⟨A3, K, q1, q2⟩ := h_numB hh hm (lo := 1) (hi := 96) T2 c4 c5 (by omega) (by omega) c8 c9
    refine rx2.t (vtX13_read_17 hh K (LE0 rfl)) ?_
    exact MF _ (by omega) (fun s => Ppc.flt (fA.tr q2).np gB.nq q1 c11 ⟨by omega, by omega⟩)
  clear MF
  rw [hw] at c9
  have hj2 : ∃ hj, hj = rh_if (96 < (6144 / w)) (96 : Int) (6144 / w) ∧ hj ≤ 96 ∧ (∀ y, 1 ≤ y → y ≤ 96 → (y ≤ hj ↔ w * y ≤ 6144)) := by
    refine ⟨_, rfl, ?_, fun y y0 y1 => ?_⟩
    · by_cases c : 96 < 6144 / w
      · rw [rh_if_t c]; decide
      · rw [rh_if_f c]; omega
    · have k1 : y ≤ 6144 / w ↔ y * w ≤ 6144 := Int.le_ediv_iff_mul_le (by omega)
      rw [Int.mul_comm w y]
      by_cases c : 96 < 6144 / w
      · rw [rh_if_t c]
        exact ⟨fun _ => k1.mp (by omega), fun _ => y1⟩
      · rw [rh_if_f c]
        exact k1
  obtain ⟨hj, ehj, hj96, hjy⟩ := hj2
  refine rx2.r (rX32_textPicture_8 hm _ _ _ ?_)
  refine ⟨fun _ => ⟨⟨by omega, by omega⟩, ?_⟩, fun z => absurd c9 z⟩
  rw [← ehj]
  obtain ⟨o, A3, h, B3, C3, D3, f3, e3, hfe3, hx3, -, fA3, gB3, h103, cs⟩ := t_num hh hm (lo := 1) (hi := 96) (hj := hj) T2 c4 c5 (by omega) (by omega) hj96
  have fA' : frx Fpc A A3 := fA.np.tr fA3.np
  have gB' : frx Gpk B B3 := gB.nq.tr gB3.nq
  have T3 := T2.nu fA3 gB3
  refine rx2.sr (vX32_textPicture_29 hm D3 (LE0 rfl)) ?_
  have MF : ∀ (P : Int → rhM → Prop), ¬ B3 0 11 = -1 → (∀ s, P 0 (rh_set B3 0 10 s)) → rh1 wm YX32_textPicture 3 32 [(0, 2, 0), (1, 0, p), (2, 0, w)] [(0, h)] B3 P := fun P h hP => by
    refine rh1.of (rX32_textPicture_32 hm _ _ _ _ ?_)
    exact ⟨fun z => absurd z h, fun _ => m_textF hh hm T3 h103 h hx hx3 P hP⟩
  rcases cs with ⟨rfl, d1, d2⟩ | ⟨rfl, d1, ⟨d2, d3, d4, d5⟩, d6, d7⟩
  · refine rx2.t (vtX13_read_17 hh C3 (LE0 rfl)) ?_
    exact MF _ (by omega) (fun s => Ppc.flt fA' gB' d1 d2 ⟨by omega, by omega⟩)
  refine rx2.gl (vgX13_read_17 hh C3 (LE0 rfl)) ?_
  have m0 : 0 ≤ w * h := mul_nn (by omega) (by omega)
  have m1 : w * h ≤ 128 * 96 := Int.mul_le_mul (by omega) (by omega) (by omega) (by decide)
  have hjh := hjy h d6.1 d6.2.1
  refine rx2.l (rX13_read_20 hh _ _ _ bl ?_)
  rw [d2, d3]
  refine ⟨⟨by omega, by omega⟩, ?_⟩
  by_cases cm : w * h ≤ 6144
  case neg =>
    rw [rh_if_f cm]
    refine rx2.t (vtX13_read_45 hh (c_mustT hh _) (LE0 rfl)) ?_
    have cj : ¬ h ≤ hj := fun q => cm (hjh.mp q)
    rcases d7 with d7 | d7
    · exact MF _ (by omega) (fun s => Ppc.flt (fA'.st (by unfold Fpc; omega)) gB' (rh_set_s _ _ _ _) d7.2 ⟨by omega, by omega⟩)
    · exact absurd d7.1 cj
  rw [rh_if_t cm]
  refine rx2.gl (vgX13_read_45 hh (c_must hh (by decide) _) (LE0 rfl)) ?_
  refine rx2.l (rX13_read_48 hh _ _ _ bl ?_)
  rw [d2]
  have fA4 : frx Fpc A3 (rh_set (rh_set A3 8 1 w) 8 2 h) := (frx.rf.st (by unfold Fpc; omega)).st (by unfold Fpc; omega)
  have T4 := T3.pc fA4 (frx.rf (M := B3))
  have p1 : rh_set (rh_set A3 8 1 w) 8 2 h 1 3 = e3 := by rw [rh_set_a (by decide), rh_set_a (by decide)]; exact d4
  have p2 : rh_set (rh_set A3 8 1 w) 8 2 h 8 1 = w := by rw [rh_set_j (by decide), rh_set_s]
  have p3 : rh_set (rh_set A3 8 1 w) 8 2 h 8 2 = h := rh_set_s _ _ _ _
  rcases d7 with d7 | ⟨d7, ⟨d8, d9⟩ | ⟨d8, d9, d10, d11⟩⟩
  · have := hjh.mpr cm
    omega
  case inr.inr =>
    obtain ⟨A5, K, q1, q2⟩ := h_numB hh hm (lo := 1) (hi := 255) T4 p1 d5 (by omega) (by omega) d8 d9
    refine rx2.t (vtX13_read_62 hh K (LE0 rfl)) ?_
    exact MF _ (by omega) (fun s => Ppc.flt ((fA'.tr fA4).tr q2.np) gB' q1 d11 ⟨by omega, by omega⟩)
  clear MF
  rw [c9] at d9
  refine rx2.r (rX32_textPicture_32 hm _ _ _ _ ?_)
  refine ⟨fun _ => ?_, fun z => absurd d9 z⟩
  obtain ⟨o, A5, g, B5, C5, D5, f5, e5, hfe5, hx5, -, fA5, gB5, h105, cs⟩ := t_num hh hm (lo := 1) (hi := 255) (hj := 255) T4 p1 d5 (by omega) (by omega) (by decide)
  have fA6 : frx Fpc A A5 := (fA'.tr fA4).tr fA5.np
  have gB6 : frx Gpk B B5 := gB'.tr gB5.nq
  have T6 := T.pc fA6 gB6
  refine rx2.sr (vX32_textPicture_50 hm D5 (LE0 rfl)) ?_
  refine rx2.r (rX32_textPicture_53 hm _ _ _ _ _ ?_)
  rcases cs with ⟨rfl, g1, g2⟩ | ⟨rfl, g1, ⟨g2, g3, g4, g5⟩, g6, g7⟩
  · refine rx2.t (vtX13_read_62 hh C5 (LE0 rfl)) ?_
    exact m_textF hh hm T6 h105 (by omega) hx hx3 _ (fun s => Ppc.flt fA6 gB6 g1 g2 ⟨by omega, by omega⟩)
  refine rx2.gl (vgX13_read_62 hh C5 (LE0 rfl)) ?_
  have w1 : A5 8 1 = w := by rw [fA5 8 1 (by unfold Fnu; omega)]; exact p2
  have w2 : A5 8 2 = h := by rw [fA5 8 2 (by unfold Fnu; omega)]; exact p3
  refine rx2.l (rX13_read_65 hh _ _ bl ?_)
  rw [g2]
  rcases g7 with g7 | ⟨g7, ⟨g8, g9⟩ | ⟨g8, g9, g10, g11⟩⟩
  · omega
  · rw [d9] at g9
    exact t_textL hh hm hp T ⟨by omega, by omega⟩ ⟨by omega, by omega⟩ ⟨m0, cm⟩ ⟨by omega, by omega⟩ (w * h).toNat 0 e5 A5 B5 (by omega) (by decide) g4 g5 (by omega) (by omega) g9 w1 w2 (fun i i0 i1 => by omega) fA6 gB6
  · obtain ⟨A7, q1, q2, q3⟩ := h_textB hh hm (g := g) (k := 0) (n := w * h) T6 g4 g5 (by omega) g10 g8 g9 (by rw [w1, w2]) ⟨m0, cm⟩
    refine rx2.t q1 ?_
    exact m_textF hh hm T6 h105 (by omega) hx hx3 _ (fun s => Ppc.flt (fA6.tr q3) gB6 q2 g11 ⟨by omega, by omega⟩)
end PictT
