/-! ===== LAYER 2: pictures told by bytes; op picture ===== -/
section PictO
variable {wh wm : rhW}
theorem t_rowsb (hh : rh_hs wh) (hm : rh_ms wm) {v : Int → Int} {N W H p : Int} {A B : rhM} (hp : 0 ≤ p ∧ p < 8) (T : Tq v N A B) (hW : 1 ≤ W ∧ W ≤ 128) (hH : 1 ≤ H ∧ H ≤ 96) (hn : W * H ≤ 6144) : ∀ (u : Nat) (y e : Int) (A1 B1 : rhM), y + u = H → 0 ≤ y → A1 8 1 = W → A1 8 2 = H → A1 1 3 = e → B1 0 10 = e → 0 ≤ e → e ≤ N → B1 0 11 = -1 → Pxl A1 B1 (W * y) → frx Fpc A A1 → frx Gpk B B1 →
    rx2 wh YX14_read 3 7 [(0, 2, 23), (1, 2, 8), (2, 0, y)] [] A1 wm YX32_bytePicture 2 73 [(0, 2, 0), (1, 0, p), (2, 0, 0), (3, 0, W), (4, 0, H), (5, 0, y)] [] B1 (Ppc p A B) := by
  have bl := hs_sh hh
  have t4 := T.1.2.2.2
  have m0 : 0 ≤ W * H := mul_nn (by omega) (by omega)
  intro u
  induction u with
  | zero =>
    intro y e A1 B1 hu y0 a1 a2 a3 b1 e0 e1 b2 px fA gB
    have T1 := T.pc fA gB
    have ey : y = H := (by omega)
    refine rx2.l (rX14_read_7 hh _ _ _ bl ?_)
    rw [a2]
    refine ⟨fun z => by omega, fun _ => ?_⟩
    by_cases ce : e = N
    · refine rx2.gl (vgX14_read_150 hh (c_over hh A1 (by rw [a3, T1.1.1, ce])) (LE0 rfl)) ?_
      refine rx2.l (rX14_read_153 hh _ ?_)
      refine rh1.of (rX32_bytePicture_73 hm _ _ _ _ _ _ ?_)
      rw [b1, T1.1.2.1]
      refine ⟨fun z => by omega, fun _ => ⟨fun z => by omega, fun _ M3 e3 => ?_⟩⟩
      subst e3
      refine ⟨fun _ => ?_, fun z => absurd b2 z⟩
      refine rh1.s (vX32_bytePicture_155 hm (c_bec hm hp _ m0 hn) (LE0 rfl)) ?_
      refine rh1.of (rX32_bytePicture_158 hm _ ?_)
      refine ⟨fA, .inr ⟨rfl, W, H, _, rfl, b2, gB, ⟨a1, a2, (by omega), (by omega), (by omega), (by omega), m0, hn, fun _ => (by omega), fun i i0 i1 => ?_⟩, (by omega)⟩⟩
      rw [ey] at px
      exact px i i0 i1
    · have K := c_overT hh A1 (by rw [a3, T1.1.1]; exact ce)
      rw [a3] at K
      refine rx2.t (vtX14_read_150 hh K (LE0 rfl)) ?_
      refine rh1.of (rX32_bytePicture_73 hm _ _ _ _ _ _ ?_)
      rw [b1, T1.1.2.1]
      refine ⟨fun z => by omega, fun _ => ⟨fun _ M3 e3 => ?_, fun z => absurd ⟨b2, (by omega)⟩ z⟩⟩
      have e4 : M3 0 11 = e := by rw [e3, rh_set_s]
      rw [e4]
      refine ⟨fun z => by omega, fun _ => ⟨fA.st (by unfold Fpc; omega), .inl ⟨rfl, by rw [e4]; exact ⟨by omega, by omega⟩, by rw [e4, rh_set_s], ?_⟩⟩⟩
      rw [e3]
      exact gB.st (by unfold Gpk; omega)
  | succ u ih =>
    intro y e A1 B1 hu y0 a1 a2 a3 b1 e0 e1 b2 px fA gB
    have RW := t_bitrow hh hm T hW ⟨y0, (by omega : y < H)⟩ hH.2 hn W.toNat 0 0 e A1 B1 (by omega) (by decide) (by decide) (fun _ => rfl) (fun z => by omega) a1 a2 a3 b1 e0 e1 b2 (by rw [Int.add_zero]; exact px) fA gB
    refine rx2.l (rX14_read_7 hh _ _ _ bl ?_)
    rw [a2]
    refine ⟨fun _ => ?_, fun z => by omega⟩
    have MC : ∀ (B' : rhM) (P : Int → rhM → Prop), (∀ Q : Int → rhM → Prop, Q 0 B' → rh1 wm YX32_bitRow 1 2 [(0, 2, 0), (1, 0, W), (2, 0, y), (3, 0, 0)] [] B1 Q) → rh1 wm YX32_bytePicture 2 73 [(0, 2, 0), (1, 0, p), (2, 0, 0), (3, 0, W), (4, 0, H), (5, 0, y + 1)] [] B' P → rh1 wm YX32_bytePicture 2 73 [(0, 2, 0), (1, 0, p), (2, 0, 0), (3, 0, W), (4, 0, H), (5, 0, y)] [] B1 P := fun B' P K1 K2 => by
      have C : eC wm YX32_bitRow 1 [(2, 0), (0, W), (0, y)] B1 0 B' := eC.of1 (rC1.of (by decide) (LE0 rfl) (by
        refine rh1.of (rX32_bitRow_0 hm _ _ _ ?_)
        exact K1 _ ⟨rfl, rfl⟩))
      refine rh1.of (rX32_bytePicture_73 hm _ _ _ _ _ _ ?_)
      refine ⟨fun _ => ⟨fun z => absurd rfl z, fun _ => rh1.s (vX32_bytePicture_106 hm C (LE0 rfl)) ?_⟩, fun z => absurd ⟨(by omega), b2⟩ z⟩
      refine rh1.of (rX32_bytePicture_109 hm _ _ _ _ _ _ ?_)
      exact ⟨⟨by omega, by omega⟩, K2⟩
    rcases RW with ⟨q, A', B', k1, k2, k3, k4, k5, k6, k7⟩ | ⟨e', A', B', k1, k2, ⟨k3, k4, k5, k6⟩, ⟨k7, k8⟩, k9, k10, k11, k12⟩
    · refine rx2.kt k1 (MC B' _ k2 (m_byteF hm (by omega) _ ?_))
      exact ⟨k6, .inl ⟨rfl, by rw [k4]; exact k5, by rw [k4, k3], k7⟩⟩
    · exact rx2.kl k1 (rx2.kr (fun Q K => MC B' Q k2 K) (ih (y + 1) e' A' B' (by omega) (by omega) k7 k8 k3 k4 k5 k6 k9 k10 k11 k12))
theorem t_formb (hh : rh_hs wh) (hm : rh_ms wm) {v : Int → Int} {N p : Int} {A B : rhM} (hp : 0 ≤ p ∧ p < 8) (T : Tq v N A B) (hA : A 1 3 = 0) (hB : B 0 10 = 0) (hw : B 0 11 = -1) : rCy wh YX14_read 3 [(2, 23), (2, 8)] A wm YX32_bytePicture 2 [(2, 0), (0, p), (0, 0)] B (Ppc p A B) := by
  have bl := hs_sh hh
  refine rCy.of (by decide) (LE0 rfl) (by decide) (LE0 rfl) ?_
  refine rx2.l (rX14_read_0 hh _ _ bl ?_)
  rcases t_sizeb hh hm (p := p) (rn := 0) T hA hB hw with ⟨q, A', B', k1, k2, k3, k4, k5, k6, k7⟩ | ⟨w, h, sz, n2, k1, k2⟩
  · refine rx2.t (vtX14_read_2 hh k1 (LE0 rfl)) (k7 _ ?_)
    exact ⟨k5, .inl ⟨rfl, by rw [k3]; exact k4, by rw [k3, k2], k6⟩⟩
  · obtain ⟨s1, s2, s3⟩ := sz
    have fA : frx Fpc A (rh_set (rh_set (rh_set A 1 3 2) 8 1 w) 8 2 h) := ((frx.rf.st (by unfold Fpc; omega)).st (by unfold Fpc; omega)).st (by unfold Fpc; omega)
    have gB : frx Gpk B (rh_set B 0 10 2) := frx.rf.st (by unfold Gpk; omega)
    refine rx2.gl (vgX14_read_2 hh k1 (LE0 rfl)) ?_
    refine rx2.l (rX14_read_5 hh _ _ bl ?_)
    refine rx2.kr k2 ?_
    exact t_rowsb hh hm hp T s1 s2 s3 h.toNat 0 2 _ _ (by omega) (by decide) (by rw [rh_set_j (by decide), rh_set_s]) (rh_set_s _ _ _ _) (by rw [rh_set_a (by decide), rh_set_a (by decide), rh_set_s]) (rh_set_s _ _ _ _) (by decide) n2 (by rw [rh_set_j (by decide)]; exact hw) (fun i i0 i1 => by rw [Int.mul_zero] at i1; omega) fA gB
theorem t_rowsc (hh : rh_hs wh) (hm : rh_ms wm) {v : Int → Int} {N W H p : Int} {A B : rhM} (hp : 0 ≤ p ∧ p < 8) (T : Tq v N A B) (hW : 1 ≤ W ∧ W ≤ 128) (hH : 1 ≤ H ∧ H ≤ 96) (hn : W * H ≤ 6144) : ∀ (u : Nat) (y e : Int) (A1 B1 : rhM), y + u = H → 0 ≤ y → A1 8 1 = W → A1 8 2 = H → A1 1 3 = e → B1 0 10 = e → 0 ≤ e → e ≤ N → B1 0 11 = -1 → Pxl A1 B1 (W * y) → frx Fpc A A1 → frx Gpk B B1 →
    rx2 wh YX15_read 3 7 [(0, 2, 24), (1, 2, 8), (2, 0, y)] [] A1 wm YX32_bytePicture 2 73 [(0, 2, 0), (1, 0, p), (2, 0, 1), (3, 0, W), (4, 0, H), (5, 0, y)] [] B1 (Ppc p A B) := by
  have bl := hs_sh hh
  have t4 := T.1.2.2.2
  have m0 : 0 ≤ W * H := mul_nn (by omega) (by omega)
  intro u
  induction u with
  | zero =>
    intro y e A1 B1 hu y0 a1 a2 a3 b1 e0 e1 b2 px fA gB
    have T1 := T.pc fA gB
    have ey : y = H := (by omega)
    refine rx2.l (rX15_read_7 hh _ _ _ bl ?_)
    rw [a2]
    refine ⟨fun z => by omega, fun _ => ?_⟩
    by_cases ce : e = N
    · refine rx2.gl (vgX15_read_178 hh (c_over hh A1 (by rw [a3, T1.1.1, ce])) (LE0 rfl)) ?_
      refine rx2.l (rX15_read_181 hh _ ?_)
      refine rh1.of (rX32_bytePicture_73 hm _ _ _ _ _ _ ?_)
      rw [b1, T1.1.2.1]
      refine ⟨fun z => by omega, fun _ => ⟨fun z => by omega, fun _ M3 e3 => ?_⟩⟩
      subst e3
      refine ⟨fun _ => ?_, fun z => absurd b2 z⟩
      refine rh1.s (vX32_bytePicture_155 hm (c_bec hm hp _ m0 hn) (LE0 rfl)) ?_
      refine rh1.of (rX32_bytePicture_158 hm _ ?_)
      refine ⟨fA, .inr ⟨rfl, W, H, _, rfl, b2, gB, ⟨a1, a2, (by omega), (by omega), (by omega), (by omega), m0, hn, fun _ => (by omega), fun i i0 i1 => ?_⟩, (by omega)⟩⟩
      rw [ey] at px
      exact px i i0 i1
    · have K := c_overT hh A1 (by rw [a3, T1.1.1]; exact ce)
      rw [a3] at K
      refine rx2.t (vtX15_read_178 hh K (LE0 rfl)) ?_
      refine rh1.of (rX32_bytePicture_73 hm _ _ _ _ _ _ ?_)
      rw [b1, T1.1.2.1]
      refine ⟨fun z => by omega, fun _ => ⟨fun _ M3 e3 => ?_, fun z => absurd ⟨b2, (by omega)⟩ z⟩⟩
      have e4 : M3 0 11 = e := by rw [e3, rh_set_s]
      rw [e4]
      refine ⟨fun z => by omega, fun _ => ⟨fA.st (by unfold Fpc; omega), .inl ⟨rfl, by rw [e4]; exact ⟨by omega, by omega⟩, by rw [e4, rh_set_s], ?_⟩⟩⟩
      rw [e3]
      exact gB.st (by unfold Gpk; omega)
  | succ u ih =>
    intro y e A1 B1 hu y0 a1 a2 a3 b1 e0 e1 b2 px fA gB
    have RW := t_runrow hh hm T hW ⟨y0, (by omega : y < H)⟩ hH.2 hn W.toNat 0 e A1 B1 (by omega) (by decide) (by omega) a1 a2 a3 b1 e0 e1 b2 (by rw [Int.add_zero]; exact px) fA gB
    refine rx2.l (rX15_read_7 hh _ _ _ bl ?_)
    rw [a2]
    refine ⟨fun _ => ?_, fun z => by omega⟩
    have MC : ∀ (B' : rhM) (P : Int → rhM → Prop), (∀ Q : Int → rhM → Prop, Q 0 B' → rh1 wm YX32_runRow 1 2 [(0, 2, 0), (1, 0, W), (2, 0, y), (3, 0, 0)] [] B1 Q) → rh1 wm YX32_bytePicture 2 73 [(0, 2, 0), (1, 0, p), (2, 0, 1), (3, 0, W), (4, 0, H), (5, 0, y + 1)] [] B' P → rh1 wm YX32_bytePicture 2 73 [(0, 2, 0), (1, 0, p), (2, 0, 1), (3, 0, W), (4, 0, H), (5, 0, y)] [] B1 P := fun B' P K1 K2 => by
      have C : eC wm YX32_runRow 1 [(2, 0), (0, W), (0, y)] B1 0 B' := eC.of1 (rC1.of (by decide) (LE0 rfl) (by
        refine rh1.of (rX32_runRow_0 hm _ _ _ ?_)
        exact K1 _ ⟨rfl, rfl⟩))
      refine rh1.of (rX32_bytePicture_73 hm _ _ _ _ _ _ ?_)
      refine ⟨fun _ => ⟨fun _ => rh1.s (vX32_bytePicture_96 hm C (LE0 rfl)) ?_, fun z => absurd (by decide) z⟩, fun z => absurd ⟨(by omega), b2⟩ z⟩
      refine rh1.of (rX32_bytePicture_99 hm _ _ _ _ _ _ ?_)
      exact ⟨⟨by omega, by omega⟩, K2⟩
    rcases RW with ⟨q, A', B', k1, k2, k3, k4, k5, k6, k7⟩ | ⟨e', A', B', k1, k2, ⟨k3, k4, k5, k6⟩, ⟨k7, k8⟩, k9, k10, k11, k12⟩
    · refine rx2.kt k1 (MC B' _ k2 (m_byteF hm (by omega) _ ?_))
      exact ⟨k6, .inl ⟨rfl, by rw [k4]; exact k5, by rw [k4, k3], k7⟩⟩
    · exact rx2.kl k1 (rx2.kr (fun Q K => MC B' Q k2 K) (ih (y + 1) e' A' B' (by omega) (by omega) k7 k8 k3 k4 k5 k6 k9 k10 k11 k12))
theorem t_formc (hh : rh_hs wh) (hm : rh_ms wm) {v : Int → Int} {N p : Int} {A B : rhM} (hp : 0 ≤ p ∧ p < 8) (T : Tq v N A B) (hA : A 1 3 = 0) (hB : B 0 10 = 0) (hw : B 0 11 = -1) : rCy wh YX15_read 3 [(2, 24), (2, 8)] A wm YX32_bytePicture 2 [(2, 0), (0, p), (0, 1)] B (Ppc p A B) := by
  have bl := hs_sh hh
  refine rCy.of (by decide) (LE0 rfl) (by decide) (LE0 rfl) ?_
  refine rx2.l (rX15_read_0 hh _ _ bl ?_)
  rcases t_sizec hh hm (p := p) (rn := 1) T hA hB hw with ⟨q, A', B', k1, k2, k3, k4, k5, k6, k7⟩ | ⟨w, h, sz, n2, k1, k2⟩
  · refine rx2.t (vtX15_read_2 hh k1 (LE0 rfl)) (k7 _ ?_)
    exact ⟨k5, .inl ⟨rfl, by rw [k3]; exact k4, by rw [k3, k2], k6⟩⟩
  · obtain ⟨s1, s2, s3⟩ := sz
    have fA : frx Fpc A (rh_set (rh_set (rh_set A 1 3 2) 8 1 w) 8 2 h) := ((frx.rf.st (by unfold Fpc; omega)).st (by unfold Fpc; omega)).st (by unfold Fpc; omega)
    have gB : frx Gpk B (rh_set B 0 10 2) := frx.rf.st (by unfold Gpk; omega)
    refine rx2.gl (vgX15_read_2 hh k1 (LE0 rfl)) ?_
    refine rx2.l (rX15_read_5 hh _ _ bl ?_)
    refine rx2.kr k2 ?_
    exact t_rowsc hh hm hp T s1 s2 s3 h.toNat 0 2 _ _ (by omega) (by decide) (by rw [rh_set_j (by decide), rh_set_s]) (rh_set_s _ _ _ _) (by rw [rh_set_a (by decide), rh_set_a (by decide), rh_set_s]) (rh_set_s _ _ _ _) (by decide) n2 (by rw [rh_set_j (by decide)]; exact hw) (fun i i0 i1 => by rw [Int.mul_zero] at i1; omega) fA gB
theorem w_pc103 {w : rhW} {h h' : Nat} {L : rhL} {S1 : List rhA} {M M0 : rhM} {r y0 p : Int} {y1 : Int} (hl : h' < h) (hb : rh_bl w 0 y0 p) (E : eC w YX29_lay h' [(2, y0), (2, y1)] M r M0) (hw1 : rh_wd S1 ≤ 8) : eS w YX1_picture h 103 L ((2, y1) :: (2, y0) :: S1) M 106 L S1 M0 := by
  have hd : decode (ry_c YX1_picture) 103 = .ok (.invokevirtual 319, 3) := (tdX1_picture 103).resolve_right (by decide +kernel) ▸ (by decide +kernel : rh_dk dtX1_picture 103 = .ok (.invokevirtual 319, 3))
  obtain ⟨ci, hci, hob⟩ := rh_obk (cis := [26]) (by decide +kernel) hb
  exact fun _ _ K => eA.cv (jX1_picture_319 ci hci) hob hl hd rfl hw1 rfl E K
theorem frx.split {F G : Int → Int → Prop} {M M' : rhM} (h : frx (fun c j => F c j ∨ G c j) M M') : ∃ Mz, frx F M Mz ∧ frx G Mz M' := by
  classical
  refine ⟨fun c j => if F c j then M' c j else M c j, fun c j hf => if_neg hf, fun c j hg => ?_⟩
  show M' c j = if F c j then M' c j else M c j
  by_cases f : F c j
  · rw [if_pos f]
  · rw [if_neg f]
    exact h c j (fun q => by rcases q with q | q; exact f q; exact hg q)
theorem m_bec_set {M : rhM} {p a b j v : Int} : rh_set (m_bec M p a b) 0 j v = m_bec (rh_set M 0 j v) p a b := by
  have e6 : rh_set M 0 j v 6 = M 6 := rh_set_n (by decide)
  funext c i
  by_cases h0 : c = 0
  · subst h0
    rw [m_bec_o (by decide) (by decide) (by decide) (by decide) (by decide)]
    by_cases hj : i = j
    · subst hj
      rw [rh_set_s, rh_set_s]
    · rw [rh_set_j hj, rh_set_j hj, m_bec_o (by decide) (by decide) (by decide) (by decide) (by decide)]
  · rw [rh_set_a h0]
    simp only [m_bec, rh_sets, rh_cpy]
    simp [h0]
def Fpq (c j : Int) : Prop := (c = 1 ∧ (j = 2 ∨ j = 3)) ∨ (c = 3 ∧ j = 6) ∨ c = 22
def Gpq (c j : Int) : Prop := c = 0 ∧ j = 2
/-- what picture leaves -/
def Ppq (Mh Mm M' M2' : rhM) : Prop := ∃ Mz Nz : rhM, frx Fpq Mh Mz ∧ frx Gpq Mm Nz ∧ Pres Mz Nz M' M2'
theorem Ppq.of {Mh Mm M' M2' : rhM} (f : frx (fun c j => Fpc c j ∨ Fpq c j) Mh M') (g : frx (fun c j => Gpk c j ∨ Gpq c j ∨ (c = 0 ∧ j = 0)) Mm M2') : Ppq Mh Mm M' M2' := by
  obtain ⟨Mz, f1, f2⟩ := frx.split (F := Fpq) (G := Hw) (f.w (fun c j h => by unfold Fpc at h; unfold Fpq at h ⊢; omega))
  obtain ⟨Nz, g1, g2⟩ := frx.split (F := Gpq) (G := Gw) (g.w (fun c j h => by unfold Gpk at h; unfold Gpq at h ⊢; omega))
  exact ⟨Mz, Nz, f1, g1, .inl ⟨f2, g2⟩⟩
theorem Ppq.laid {Mh Mm M1 M2 : rhM} {p W H : Int} (R : Rpg Mh Mm) (hp : 0 ≤ p ∧ p < 8) (f : frx (fun c j => Fpc c j ∨ Fpq c j) Mh M1) (g : frx (fun c j => Gpk c j ∨ Gpq c j ∨ (c = 0 ∧ j = 0)) Mm M2) (S : Rsp M1 M2 W H) (W0 : 0 < W) : Ppq Mh Mm (m_lay M1 (251 + 39 * p) 8) (m_bec M2 p W H) := by
  obtain ⟨Mz, f1, f2⟩ := frx.split (F := Fpq) (G := Hw) (f.w (fun c j h => by unfold Fpc at h; unfold Fpq at h ⊢; omega))
  obtain ⟨Nz, g1, g2⟩ := frx.split (F := Gpq) (G := Gw) (g.w (fun c j h => by unfold Gpk at h; unfold Gpq at h ⊢; omega))
  have Rz : Rpg Mz Nz := R.fx f1 g1 (fun q a j q0 q1 h => by unfold Fpq at h; exact ⟨(by omega), (by omega)⟩) (fun a j h => by unfold Gpq at h; exact ⟨(by omega), (by omega), (by omega)⟩)
  exact ⟨Mz, Nz, f1, g1, .inr ⟨p, hp, Laid.mk Rz hp f2 g2 S W0⟩⟩
/-- the model's end of picture -/
theorem m_pcE (hm : rh_ms wm) {x1 : Int} {B' : rhM} (hx : 0 ≤ x1 ∧ x1 < 8) (P : Int → rhM → Prop) (h1 : ¬ B' 0 11 = -1 → (0 ≤ B' 0 11 ∧ B' 0 11 ≤ 4096) ∧ P (-1000 - B' 0 11) (rh_set B' 0 2 0)) (h2 : B' 0 11 = -1 → rI (B' 4 x1 * B' 5 x1) ∧ P (B' 4 x1 * B' 5 x1) (rh_set B' 0 2 0)) : rh1 wm YX32_picture 4 50 [(0, 2, 0), (1, 0, x1)] [] B' P ∧ rh1 wm YX32_picture 4 68 [(0, 2, 0), (1, 0, x1)] [] B' P := by
  constructor
  · refine rh1.of (rX32_picture_50 hm _ _ ?_)
    exact ⟨fun z => ⟨hx, hx, h2 z⟩, fun z => ⟨by have := (h1 z).1; exact ⟨by omega, by omega⟩, (h1 z).2⟩⟩
  · refine rh1.of (rX32_picture_68 hm _ _ ?_)
    exact ⟨fun z => ⟨hx, hx, h2 z⟩, fun z => ⟨by have := (h1 z).1; exact ⟨by omega, by omega⟩, (h1 z).2⟩⟩
theorem op_picture (hh : rh_hs wh) (hm : rh_ms wm) {Mh Mm : rhM} (T : Rtp Mh Mm) (R : Rpg Mh Mm) (x1 x2 : Int) : rC2 wh YX1_picture (3 + 1) [(2, 0), (0, x1), (0, x2)] Mh wm YX32_picture 4 [(2, 0), (0, x1), (0, x2)] Mm (fun r M' r2 M2' => r = r2 ∧ Rtp M' M2' ∧ Ppq Mh Mm M' M2') := by
  have bl := hs_sh hh
  obtain ⟨t1, t2, t3, t4⟩ := T
  have same : Ppq Mh Mm Mh (rh_set Mm 0 0 0) := Ppq.of frx.rf (frx.rf.st (by omega))
  have Ts : Rtp Mh (rh_set Mm 0 0 0) := by
    have e : rh_set Mm 0 0 0 0 2 = Mm 0 2 := rh_set_j (by decide)
    refine ⟨by rw [e]; exact t1, by rw [e]; exact t2, by rw [e]; exact t3, ?_⟩
    rw [e]
    intro k k0 k1
    rw [rh_set_a (by decide)]
    exact t4 k k0 k1
  by_cases c1 : (0 ≤ x1) ∧ (x1 ≤ 7)
  case neg =>
    refine ⟨-101, Mh, -101, rh_set Mm 0 0 0, eC.of1 (rC1.of (by decide) (LE0 rfl) ?_), eC.of1 (rC1.of (by decide) (LE0 rfl) ?_), rfl, Ts, same⟩
    · refine rh1.up (rX1_picturea_0 hh _ _ _ ?_)
      exact ⟨fun _ => ⟨rfl, rfl⟩, fun z => absurd c1 z⟩
    · refine rh1.of (rX32_picture_0 hm _ _ _ ?_)
      exact ⟨fun _ => ⟨rfl, rfl⟩, fun z => absurd c1 z⟩
  have hp : 0 ≤ x1 ∧ x1 < 8 := ⟨by omega, by omega⟩
  -- the house up to the choice of the form
  have H0 : ∀ P : Int → rhM → Prop, rh1 wh YX1_picture (3 + 1) 18 [(0, 2, 0), (1, 0, x1), (2, 0, x2)] [(0, 3), (1, 0), (1, x2)] Mh P → rh1 wh YX1_picture (3 + 1) 0 (rh_lo 0 [(2, 0), (0, x1), (0, x2)]) [] Mh P := fun P K => by
    refine rh1.up (rX1_picturea_0 hh _ _ _ ?_)
    exact ⟨fun z => absurd c1 z, fun _ => rh1.s (vX1_picture_17 hh) K⟩
  by_cases c2 : (0 ≤ x2) ∧ (x2 ≤ 2)
  case neg =>
    refine ⟨-102, Mh, -102, rh_set Mm 0 0 0, eC.of1 (rC1.of (by decide) (LE0 rfl) (H0 _ ?_)), eC.of1 (rC1.of (by decide) (LE0 rfl) ?_), rfl, Ts, same⟩
    · refine rh1.up (rX1_picturea_18 hh _ _ _ _ _ _ ?_)
      exact ⟨⟨by omega, by omega⟩, fun _ => ⟨rfl, rfl⟩, fun z => absurd (Classical.not_not.mp z) (by omega)⟩
    · refine rh1.of (rX32_picture_0 hm _ _ _ ?_)
      exact ⟨fun z => absurd c1 z, fun _ => ⟨fun _ => ⟨rfl, rfl⟩, fun z => absurd c2 z⟩⟩
  have H1 : ∀ P : Int → rhM → Prop, rh1 wh YX1_picture (3 + 1) 43 [(0, 2, 0), (1, 0, x1)] [(0, x2), (2, 21)] (rh_set Mh 1 3 0) P → rh1 wh YX1_picture (3 + 1) 0 (rh_lo 0 [(2, 0), (0, x1), (0, x2)]) [] Mh P := fun P K => by
    refine H0 P ?_
    refine rh1.up (rX1_picturea_18 hh _ _ _ _ _ _ ?_)
    exact ⟨⟨by omega, by omega⟩, fun z => absurd ⟨c2.1, (by omega)⟩ z, fun _ => K⟩
  have TQ : Tq (Mm 1) (Mm 0 2) (rh_set Mh 1 3 0) (rh_set (rh_set (rh_set Mm 0 0 0) 0 10 0) 0 11 (-1)) := by
    refine ⟨⟨?_, ?_, t2, t3⟩, fun i i0 i1 => ?_⟩
    · rw [rh_set_j (by decide)]; exact t1
    · rw [rh_set_j (by decide), rh_set_j (by decide), rh_set_j (by decide)]
    · rw [rh_set_a (by decide), rh_set_a (by decide), rh_set_a (by decide), rh_set_a (by decide)]
      have h := t4 i i0 i1
      exact ⟨h.1, rfl, h.2.1⟩
  have fA0 : frx Fpc Mh (rh_set Mh 1 3 0) := frx.rf.st (by unfold Fpc; omega)
  have gB0 : frx (fun c j => Gpk c j ∨ Gpq c j ∨ (c = 0 ∧ j = 0)) Mm (rh_set (rh_set (rh_set Mm 0 0 0) 0 10 0) 0 11 (-1)) := ((frx.rf.st (by unfold Gpk; omega)).st (by unfold Gpk; omega)).st (by unfold Gpk; omega)
  have b10 : rh_set (rh_set (rh_set Mm 0 0 0) 0 10 0) 0 11 (-1) 0 10 = 0 := by rw [rh_set_j (by decide), rh_set_s]
  -- what follows the reading
  have FT : ∀ (A' B' : rhM) (r2 : Int), Ppc x1 (rh_set Mh 1 3 0) (rh_set (rh_set (rh_set Mm 0 0 0) 0 10 0) 0 11 (-1)) none A' r2 B' → (∀ P : Int → rhM → Prop, rh1 wh YX1_picture (3 + 1) 62 [(0, 2, 0)] [(2, 3)] A' P → rh1 wh YX1_picture (3 + 1) 0 (rh_lo 0 [(2, 0), (0, x1), (0, x2)]) [] Mh P) → (∀ P : Int → rhM → Prop, rh1 wm YX32_picture 4 50 [(0, 2, 0), (1, 0, x1)] [] B' P ∧ rh1 wm YX32_picture 4 68 [(0, 2, 0), (1, 0, x1)] [] B' P → rh1 wm YX32_picture 4 0 (rh_lo 0 [(2, 0), (0, x1), (0, x2)]) [] Mm P) → rC2 wh YX1_picture (3 + 1) [(2, 0), (0, x1), (0, x2)] Mh wm YX32_picture 4 [(2, 0), (0, x1), (0, x2)] Mm (fun r M' r2 M2' => r = r2 ∧ Rtp M' M2' ∧ Ppq Mh Mm M' M2') := by
    intro A' B' r2 PP KH KM
    obtain ⟨fA, ⟨-, q1, q2, gB⟩ | ⟨z, -⟩⟩ := PP
    · refine ⟨-1000 - B' 0 11, rh_set A' 1 2 0, -1000 - B' 0 11, rh_set B' 0 2 0, eC.of1 (rC1.of (by decide) (LE0 rfl) (KH _ ?_)), eC.of1 (rC1.of (by decide) (LE0 rfl) (KM _ (m_pcE hm hp _ (fun _ => ⟨q1, rfl, rfl⟩) (fun z => by omega)))), rfl, Rtp.use (Mh := A') (Mm := B') (rh_set_s _ _ _ _) (rh_set_s _ _ _ _), Ppq.of ((fA0.tr fA).w (fun c j h => .inl h) |>.st (by unfold Fpq; omega)) ((gB0.tr (gB.w (fun c j h => .inl h))).st (by unfold Gpq; omega))⟩
      refine rh1.up (rX1_picturea_62 hh _ ?_)
      rw [q2]
      exact ⟨⟨by omega, by omega⟩, rfl, rfl⟩
    · cases z
  have FS : ∀ (A' B' : rhM) (r2 : Int), Ppc x1 (rh_set Mh 1 3 0) (rh_set (rh_set (rh_set Mm 0 0 0) 0 10 0) 0 11 (-1)) (some 0) A' r2 B' → (∀ P : Int → rhM → Prop, rh1 wh YX1_picture (3 + 1) 51 [(0, 2, 0), (1, 0, x1)] [] A' P → rh1 wh YX1_picture (3 + 1) 0 (rh_lo 0 [(2, 0), (0, x1), (0, x2)]) [] Mh P) → (∀ P : Int → rhM → Prop, rh1 wm YX32_picture 4 50 [(0, 2, 0), (1, 0, x1)] [] B' P ∧ rh1 wm YX32_picture 4 68 [(0, 2, 0), (1, 0, x1)] [] B' P → rh1 wm YX32_picture 4 0 (rh_lo 0 [(2, 0), (0, x1), (0, x2)]) [] Mm P) → rC2 wh YX1_picture (3 + 1) [(2, 0), (0, x1), (0, x2)] Mh wm YX32_picture 4 [(2, 0), (0, x1), (0, x2)] Mm (fun r M' r2 M2' => r = r2 ∧ Rtp M' M2' ∧ Ppq Mh Mm M' M2') := by
    intro A' B' r2 PP KH KM
    obtain ⟨fA, ⟨z, -⟩ | ⟨-, W, H, M2, eB, q1, gB, S, W0⟩⟩ := PP
    · cases z
    obtain ⟨s1, s2, s3, s4, s5, s6, s7, s8, s9, s10⟩ := S
    have e4 : B' 4 x1 = W := by rw [eB, m_bec_4, if_pos rfl]
    have e5 : B' 5 x1 = H := by rw [eB, m_bec_5, if_pos rfl]
    have e11 : B' 0 11 = -1 := by rw [eB, m_bec_o (by decide) (by decide) (by decide) (by decide) (by decide)]; exact q1
    have S2 : Rsp (rh_set A' 1 2 0) (rh_set M2 0 2 0) W H := by
      refine ⟨(rh_set_a (by decide)).trans s1, (rh_set_a (by decide)).trans s2, s3, s4, s5, s6, s7, s8, s9, fun k k0 k1 => ?_⟩
      rw [rh_set_a (by decide), rh_set_a (by decide)]
      exact s10 k k0 k1
    have w1 : rh_set A' 1 2 0 8 1 = W := S2.1
    have w2 : rh_set A' 1 2 0 8 2 = H := S2.2.1
    refine ⟨W * H, m_lay (rh_set A' 1 2 0) (251 + 39 * x1) 8, W * H, rh_set B' 0 2 0, eC.of1 (rC1.of (by decide) (LE0 rfl) (KH _ ?_)), eC.of1 (rC1.of (by decide) (LE0 rfl) (KM _ (m_pcE hm hp _ (fun z => absurd e11 z) (fun _ => by rw [e4, e5]; exact ⟨⟨by omega, by omega⟩, rfl, rfl⟩)))), rfl, Rtp.use (Mh := A') (Mm := B') ?_ (rh_set_s _ _ _ _), ?_⟩
    · refine rh1.up (rX1_picturea_51 hh _ _ ?_)
      refine ⟨hp, rh1.s (w_pc103 (by decide) (hs_pg hh hp.1 hp.2) (c_lay hh (hs_pg hh hp.1 hp.2) (hs_sh hh) (by omega) (rh_set A' 1 2 0) (by rw [w1, w2]; exact s7) (by rw [w1, w2]; exact s8)) (LE0 rfl)) ?_⟩
      have l1 : m_lay (rh_set A' 1 2 0) (251 + 39 * x1) 8 8 1 = W := by rw [m_lay_o (by omega) (by omega) (by omega)]; exact w1
      have l2 : m_lay (rh_set A' 1 2 0) (251 + 39 * x1) 8 8 2 = H := by rw [m_lay_o (by omega) (by omega) (by omega)]; exact w2
      refine rh1.up (rX1_picturea_106 hh _ ?_)
      rw [l1, l2]
      exact ⟨⟨by omega, by omega⟩, rfl, rfl⟩
    · rw [m_lay_o (by omega) (by omega) (by omega), rh_set_s]
    · rw [eB, m_bec_set]
      exact Ppq.laid R hp (((fA0.tr fA).w (fun c j h => .inl h)).st (by unfold Fpq; omega)) ((gB0.tr (gB.w (fun c j h => .inl h))).st (by unfold Gpq; omega)) S2 W0
  by_cases d0 : x2 = 0
  · subst d0
    obtain ⟨o, A', r2, B', C, D, PP⟩ := t_text hh hm hp TQ (rh_set_s _ _ _ _) b10 (rh_set_s _ _ _ _)
    have KM : ∀ P : Int → rhM → Prop, rh1 wm YX32_picture 4 50 [(0, 2, 0), (1, 0, x1)] [] B' P ∧ rh1 wm YX32_picture 4 68 [(0, 2, 0), (1, 0, x1)] [] B' P → rh1 wm YX32_picture 4 0 (rh_lo 0 [(2, 0), (0, x1), (0, 0)]) [] Mm P := fun P K => by
      refine rh1.of (rX32_picture_0 hm _ _ _ ?_)
      exact ⟨fun z => absurd c1 z, fun _ => ⟨fun z => absurd c2 z, fun _ => ⟨fun _ => rh1.s (vX32_picture_47 hm D (LE0 rfl)) K.1, fun z => absurd rfl z⟩⟩⟩
    cases o with
    | none =>
      refine FT A' B' r2 PP (fun P K => H1 P (rh1.s (vX1_picturea_43 hh) ?_)) KM
      refine rh1.up (rX1_picturea_44 hh _ _ ?_)
      exact rh1.s ((vcX1_picturea_48 hh C (LE0 rfl)).tr (eG.less (fun z hz => by rcases List.mem_singleton.mp hz with rfl; exact List.mem_cons_self))).toS K
    | some r =>
      have er : r = 0 := by
        rcases PP.2 with ⟨z, -⟩ | ⟨z, -⟩
        · cases z
        · exact Option.some.inj z
      subst er
      refine FS A' B' r2 PP (fun P K => H1 P (rh1.s (vX1_picturea_43 hh) ?_)) KM
      refine rh1.up (rX1_picturea_44 hh _ _ ?_)
      exact rh1.s (vX1_picturea_48 hh C (LE0 rfl)) K
  by_cases d1 : x2 = 1
  · subst d1
    obtain ⟨o, A', r2, B', C, D, PP⟩ := t_formb hh hm hp TQ (rh_set_s _ _ _ _) b10 (rh_set_s _ _ _ _)
    have KM : ∀ P : Int → rhM → Prop, rh1 wm YX32_picture 4 50 [(0, 2, 0), (1, 0, x1)] [] B' P ∧ rh1 wm YX32_picture 4 68 [(0, 2, 0), (1, 0, x1)] [] B' P → rh1 wm YX32_picture 4 0 (rh_lo 0 [(2, 0), (0, x1), (0, 1)]) [] Mm P := fun P K => by
      refine rh1.of (rX32_picture_0 hm _ _ _ ?_)
      rw [rh_if_f (by decide)]
      exact ⟨fun z => absurd c1 z, fun _ => ⟨fun z => absurd c2 z, fun _ => ⟨fun z => absurd z (by decide), fun _ => rh1.s (vX32_picture_65 hm D (LE0 rfl)) K.2⟩⟩⟩
    cases o with
    | none =>
      refine FT A' B' r2 PP (fun P K => H1 P (rh1.s (vX1_pictureb_43 hh) ?_)) KM
      refine rh1.up (rX1_pictureb_44 hh _ _ ?_)
      exact rh1.s ((vcX1_pictureb_48 hh C (LE0 rfl)).tr (eG.less (fun z hz => by rcases List.mem_singleton.mp hz with rfl; exact List.mem_cons_self))).toS K
    | some r =>
      have er : r = 0 := by
        rcases PP.2 with ⟨z, -⟩ | ⟨z, -⟩
        · cases z
        · exact Option.some.inj z
      subst er
      refine FS A' B' r2 PP (fun P K => H1 P (rh1.s (vX1_pictureb_43 hh) ?_)) KM
      refine rh1.up (rX1_pictureb_44 hh _ _ ?_)
      exact rh1.s (vX1_pictureb_48 hh C (LE0 rfl)) K
  by_cases d2 : x2 = 2
  · subst d2
    obtain ⟨o, A', r2, B', C, D, PP⟩ := t_formc hh hm hp TQ (rh_set_s _ _ _ _) b10 (rh_set_s _ _ _ _)
    have KM : ∀ P : Int → rhM → Prop, rh1 wm YX32_picture 4 50 [(0, 2, 0), (1, 0, x1)] [] B' P ∧ rh1 wm YX32_picture 4 68 [(0, 2, 0), (1, 0, x1)] [] B' P → rh1 wm YX32_picture 4 0 (rh_lo 0 [(2, 0), (0, x1), (0, 2)]) [] Mm P := fun P K => by
      refine rh1.of (rX32_picture_0 hm _ _ _ ?_)
      rw [rh_if_t (by decide)]
      exact ⟨fun z => absurd c1 z, fun _ => ⟨fun z => absurd c2 z, fun _ => ⟨fun z => absurd z (by decide), fun _ => rh1.s (vX32_picture_65 hm D (LE0 rfl)) K.2⟩⟩⟩
    cases o with
    | none =>
      refine FT A' B' r2 PP (fun P K => H1 P (rh1.s (vX1_picturec_43 hh) ?_)) KM
      refine rh1.up (rX1_picturec_44 hh _ _ ?_)
      exact rh1.s ((vcX1_picturec_48 hh C (LE0 rfl)).tr (eG.less (fun z hz => by rcases List.mem_singleton.mp hz with rfl; exact List.mem_cons_self))).toS K
    | some r =>
      have er : r = 0 := by
        rcases PP.2 with ⟨z, -⟩ | ⟨z, -⟩
        · cases z
        · exact Option.some.inj z
      subst er
      refine FS A' B' r2 PP (fun P K => H1 P (rh1.s (vX1_picturec_43 hh) ?_)) KM
      refine rh1.up (rX1_picturec_44 hh _ _ ?_)
      exact rh1.s (vX1_picturec_48 hh C (LE0 rfl)) K
  exact absurd c2 (by omega)
end PictO
