/-! ===== LAYER 2: piece ===== -/
section Piece
variable {wh wm : rhW}
theorem c_holesOf (hm : rh_ms wm) {i W H : Int} (M : rhM) (hW : M 0 17 = W) (hH : M 0 18 = H) (hW0 : 0 ≤ W) (hWb : W ≤ 128) (hHb : H ≤ 96) (hN0 : 0 ≤ W * H) (hN : W * H ≤ 6144) :
    rC1 wm YX32_holesOf 2 [(2, 0), (0, i)] M (fun q M' => frx (fun a j => (a = 0 ∧ j = 19) ∨ (9 ≤ a ∧ a ≤ 13)) M M' ∧ ∃ (lab : Int → Int) (cnt : Int) (ed : Int → Int), Lb W (W * H) (fun k => ¬ M 9 k = i) False lab cnt ∧ (∀ c, 0 ≤ c → c < cnt → (ed c = 0 ∨ ed c = 1) ∧ (ed c = 1 ↔ ∃ k, (0 ≤ k ∧ k < W * H) ∧ lab k = c ∧ brd W H k)) ∧ q = nct (fun c => if ed c = 0 then (1 : Int) else 0) 1 cnt.toNat) := by
  refine rC1.of (by decide) (LE0 rfl) ?_
  refine rh1.of (rX32_holesOf_0 hm _ _ ?_)
  obtain ⟨r, M1, E1, -, f1, k1⟩ := c_alone hm (i := i) M hW hH hN0 hN
  refine rh1.s (vX32_holesOf_2 hm E1 (LE0 rfl)) ?_
  refine rh1.of (rX32_holesOf_5 hm _ ?_)
  obtain ⟨r, M2, E2, -, f2, L2, cb2⟩ := c_labelAll hm (b := 0) (eb := 0) M1 (by rw [f1 _ _ (by omega), hW]) (by rw [f1 _ _ (by omega), hH]) hW0 hWb hHb hN0 hN
  refine rh1.s (vX32_holesOf_8 hm E2 (LE0 rfl)) ?_
  refine rh1.of (rX32_holesOf_11 hm _ ?_)
  obtain ⟨r, M3, E3, -, f3, P3⟩ := c_measureSets hm M2 (by rw [f2 _ _ (by omega), f1 _ _ (by omega), hW]) (by rw [f2 _ _ (by omega), f1 _ _ (by omega), hH]) hW0 hWb hHb hN0 hN L2 cb2
  refine rh1.s (vX32_holesOf_12 hm E3 (LE0 rfl)) ?_
  refine rh1.of (rX32_holesOf_15 hm _ ?_)
  have c0 := P3.1.2.2.2.2.2
  have w19 : M3 0 19 = M2 0 19 := f3 _ _ (by omega)
  have LL : Lb W (W * H) (fun k => ¬ M 9 k = i) False (M2 9) (M2 0 19) := (P3.1.cols (fun k hk => by
    show M1 11 k = 0 ↔ ¬ M 9 k = i
    rw [k1 k hk.1 hk.2]
    split
    · rename_i y; exact ⟨fun z => absurd z (by decide), fun z => absurd y z⟩
    · rename_i y; exact ⟨fun _ => y, fun _ => rfl⟩)).eight (by decide)
  replace LL := Hid.mk LL
  have P4 := Hid.mk P3.2.2
  clear P3 L2
  have F : frx (fun a j => (a = 0 ∧ j = 19) ∨ (9 ≤ a ∧ a ≤ 13)) M M3 := ((f1.w (fun a j h => by omega)).tr (f2.w (fun a j h => by omega))).tr (f3.w (fun a j h => by omega))
  have key : ∀ (vq : Nat) (k : Nat), (M2 0 19 - k).toNat = vq → ((k : Int) ≤ M2 0 19) → rh1 wm YX32_holesOf 2 19 [(0, 2, 0), (2, 0, nct (fun c => if M3 13 c = 0 then (1 : Int) else 0) 1 k), (3, 0, (k : Int))] [] M3 (fun q M' => frx (fun a j => (a = 0 ∧ j = 19) ∨ (9 ≤ a ∧ a ≤ 13)) M M' ∧ ∃ (lab : Int → Int) (cnt : Int) (ed : Int → Int), Lb W (W * H) (fun k => ¬ M 9 k = i) False lab cnt ∧ (∀ c, 0 ≤ c → c < cnt → (ed c = 0 ∨ ed c = 1) ∧ (ed c = 1 ↔ ∃ k, (0 ≤ k ∧ k < W * H) ∧ lab k = c ∧ brd W H k)) ∧ q = nct (fun c => if ed c = 0 then (1 : Int) else 0) 1 cnt.toNat) := by
    intro vq
    induction vq using Nat.strongRecOn with
    | ind vq ih =>
      intro k hvq k1
      refine rh1.of (rX32_holesOf_19 hm _ _ _ ?_)
      rw [w19]
      have nb := nct_b (fun c => if M3 13 c = 0 then (1 : Int) else 0) 1 (k + 1)
      refine ⟨fun c => ⟨⟨by omega, by omega⟩, fun s es => ?_⟩, fun c => ⟨F, M2 9, M2 0 19, M3 13, LL.out, fun c c0 c1 => (P4.out c c0 c1).2, by rw [show (M2 0 19).toNat = k by omega]⟩⟩
      have es2 : s = nct (fun c => if M3 13 c = 0 then (1 : Int) else 0) 1 (k + 1) := by
        rw [es, rh_ifd]
        simp only [nct]
        by_cases y : M3 13 (k : Int) = 0
        · simp [y]
        · simp [y]
      refine ⟨⟨by omega, by omega⟩, ⟨by omega, by omega⟩, ?_⟩
      have := ih _ (by omega) (k + 1) rfl (by omega)
      rw [← es2] at this
      exact this
  exact key _ 0 rfl c0
theorem op_piece (hh : rh_hs wh) (hm : rh_ms wm) {Mh Mm : rhM} (R : Rpg Mh Mm) (S : Rsr Mh) (x1 x2 x3 : Int) : rC2 wh YX1_piece 6 [(2, 0), (0, x1), (0, x2), (0, x3)] Mh wm YX32_piece 3 [(2, 0), (0, x1), (0, x2), (0, x3)] Mm (fun r M' r2 M2' => r = r2 ∧ Kept Mh Mm M' M2') := by
  refine rC2.of (by decide) (LE0 rfl) (by decide) (LE0 rfl) ?_
  have e4 : rh_set Mm 0 0 0 4 x1 = Mm 4 x1 := rh_set_a (by decide)
  have e5 : rh_set Mm 0 0 0 5 x1 = Mm 5 x1 := rh_set_a (by decide)
  have f0 : frx Gw Mm (rh_set Mm 0 0 0) := frx.rf.st (by unfold Gw; omega)
  obtain ⟨r, M1, E1, h1, h2⟩ := c_isPiece hh R S x1 x2
  refine rh2.l (rX1_piece_0 hh _ _ _ _ ?_)
  refine rh2.sl (vX1_piece_3 hh E1 (LE0 rfl)) ?_
  by_cases c : (0 ≤ x1 ∧ x1 ≤ 7) ∧ 0 < Mm 4 x1
  · obtain ⟨er, f1, s4, S1, R1⟩ := h2 c
    clear h1 h2
    have hp : 0 ≤ x1 ∧ x1 < 8 := ⟨by omega, by omega⟩
    have hx1 := c.2
    have R1' := R1
    obtain ⟨a1, a2, a3, a4, a5, a6, a7, a8, a9, a10⟩ := R1'
    replace a9 := Hid.mk a9
    obtain ⟨r2, M2, E2, -, f2, -, P⟩ := c_findPieces hm hp (rh_set Mm 0 0 0) (W := Mm 4 x1) (H := Mm 5 x1) e4 e5 a3 a4 a6 a7 a8
    have hmc : mcol (rh_set Mm 0 0 0) x1 = mcol Mm x1 := by unfold mcol; rw [rh_set_n (by omega)]
    rw [hmc] at P
    have Q := SrPc R1 (S1 x1 hp.1 hp.2 s4) P
    have F1 : frx (fun a j => Hw a j ∨ (a = 251 + 39 * x1 ∧ (j = 4 ∨ j = 6)) ∨ (251 + 39 * x1 + 2 ≤ a ∧ a ≤ 251 + 39 * x1 + 8)) Mh M1 := f1.w (fun a j h => by unfold Fsr at h; unfold Hw; omega)
    have F2 : frx Gw Mm M2 := f0.tr (f2.w (fun a j h => by unfold Gw; omega))
    have KP : Kept Mh Mm M1 M2 := ⟨⟨x1, hp, F1⟩, S1, F2⟩
    refine rh2.r (rX32_piece_0 hm _ _ _ _ ?_)
    rw [e4]
    refine ⟨fun _ => hp, fun d => absurd c d, fun _ => ?_⟩
    refine rh2.sr (vX32_piece_18 hm E2 (LE0 rfl)) ?_
    rw [Q.1] at er
    by_cases hn : 0 ≤ x2 ∧ x2 ≤ M2 0 31 - 1
    · rw [rh_if_t hn] at er
      have hi : 0 ≤ x2 ∧ x2 < 300 := ⟨by omega, by omega⟩
      obtain ⟨-, v4, v5, v6, v7, v8⟩ := Q.2.2.2 x2 hn.1 (by omega)
      have hlab := Q.2.2.1
      obtain ⟨-, Pq1, sx, sy⟩ := P.2.2.2.2.2 x2 hn.1 (by omega)
      obtain ⟨⟨p1, p2⟩, p3, -, ⟨j4, p4, p5, p6⟩, ⟨j7, p7, p8, p9⟩, p10⟩ := Pq1
      have pf := p3 _ p1 p2
      have db := dm_b hx1 p1.1 p1.2
      have db4 := dm_b hx1 p4.1 p4.2
      have db7 := dm_b hx1 p7.1 p7.2
      have hl0 : 0 ≤ M2 16 x2 := by
        obtain ⟨j, j0, j1, j2⟩ := (P.2.2.2.2.2 x2 hn.1 (by omega)).2.1.2.2.1
        have := dm_b hx1 j0.1 j0.2
        omega
      have hbox : (0 ≤ M2 16 x2 ∧ M2 16 x2 < M2 18 x2 ∧ M2 18 x2 ≤ Mm 4 x1) ∧ (0 ≤ M2 17 x2 ∧ M2 17 x2 < M2 19 x2 ∧ M2 19 x2 ≤ Mm 5 x1) := ⟨⟨hl0, (by omega), (by omega)⟩, ⟨(by omega), (by omega), (by omega)⟩⟩
      have hE : ¬ r = 0 := by rw [er]; decide
      refine rh2.l (rX1_piece_6 hh _ _ _ _ _ ?_)
      refine ⟨fun d => absurd d hE, fun _ => ⟨hp, ⟨fun c0 => ⟨hi, ?_⟩, fun c0 => ⟨fun c1 => ⟨hi, ?_⟩, fun c1 => ⟨fun c2 => ⟨hi, ?_⟩, fun c2 => ⟨fun c3 => ?_, fun c3 => ⟨fun c4 => ?_, fun c4 => ⟨fun c5 => ?_, fun c5 => ⟨fun c6 => ?_, fun c6 => ⟨fun c7 => ?_, fun c7 => ⟨fun c8 => ?_, fun c8 => ⟨fun c9 => ?_, fun c9 => ?_⟩⟩⟩⟩⟩⟩⟩⟩⟩⟩⟩⟩
      · refine rh1.of (rX32_piece_21 hm _ _ _ ?_)
        exact ⟨⟨by omega, by omega⟩, fun d => absurd hn d, fun _ => ⟨fun _ => ⟨hi, v4, KP⟩, fun d => absurd c0 d⟩⟩
      · refine rh1.of (rX32_piece_21 hm _ _ _ ?_)
        exact ⟨⟨by omega, by omega⟩, fun d => absurd hn d, fun _ => ⟨fun d => absurd d c0, fun _ => ⟨fun _ => ⟨hi, v5, KP⟩, fun d => absurd c1 d⟩⟩⟩
      · refine rh1.of (rX32_piece_21 hm _ _ _ ?_)
        exact ⟨⟨by omega, by omega⟩, fun d => absurd hn d, fun _ => ⟨fun d => absurd d c0, fun _ => ⟨fun d => absurd d c1, fun _ => ⟨fun _ => ⟨hi, v6, KP⟩, fun d => absurd c2 d⟩⟩⟩⟩
      · refine ⟨hi, hi, ⟨by omega, by omega⟩, ?_⟩
        refine rh1.of (rX32_piece_21 hm _ _ _ ?_)
        exact ⟨⟨by omega, by omega⟩, fun d => absurd hn d, fun _ => ⟨fun d => absurd d c0, fun _ => ⟨fun d => absurd d c1, fun _ => ⟨fun d => absurd d c2, fun _ => ⟨fun _ => ⟨hi, hi, ⟨by omega, by omega⟩, by rw [v7, v5], KP⟩, fun d => absurd c3 d⟩⟩⟩⟩⟩
      · refine ⟨hi, hi, ⟨by omega, by omega⟩, ?_⟩
        refine rh1.of (rX32_piece_21 hm _ _ _ ?_)
        exact ⟨⟨by omega, by omega⟩, fun d => absurd hn d, fun _ => ⟨fun d => absurd d c0, fun _ => ⟨fun d => absurd d c1, fun _ => ⟨fun d => absurd d c2, fun _ => ⟨fun d => absurd d c3, fun _ => ⟨fun _ => ⟨hi, hi, ⟨by omega, by omega⟩, by rw [v8, v6], KP⟩, fun d => absurd c4 d⟩⟩⟩⟩⟩⟩
      · rw [rh_if_t c5]
        refine rh2.sl (vX1_piece_145 (hs_pg hh hp.1 hp.2) (c_sumOf hh (hs_pg hh hp.1 hp.2) M1 a1 a2 a3 a4 a6 a7 a8) (LE0 rfl)) ?_
        refine rh2.l (rX1_piece_148 hh _ _ ?_)
        refine rh1.of (rX32_piece_21 hm _ _ _ ?_)
        refine ⟨⟨by omega, by omega⟩, fun d => absurd hn d, fun _ => ⟨fun d => absurd d c0, fun _ => ⟨fun d => absurd d c1, fun _ => ⟨fun d => absurd d c2, fun _ => ⟨fun d => absurd d c3, fun _ => ⟨fun d => absurd d c4, fun _ => ⟨fun _ => ⟨hi, ?_, KP⟩, fun d => absurd c5 d⟩⟩⟩⟩⟩⟩⟩
        rw [sx, psum_cg (lab' := M2 9) _ (fun j j0 j1 => by rw [hlab j ⟨j0, (by omega)⟩]; split <;> omega)]
        rfl
      · rw [rh_if_f c5]
        refine rh2.sl (vX1_piece_145 (hs_pg hh hp.1 hp.2) (c_sumOf hh (hs_pg hh hp.1 hp.2) M1 a1 a2 a3 a4 a6 a7 a8) (LE0 rfl)) ?_
        refine rh2.l (rX1_piece_148 hh _ _ ?_)
        refine rh1.of (rX32_piece_21 hm _ _ _ ?_)
        refine ⟨⟨by omega, by omega⟩, fun d => absurd hn d, fun _ => ⟨fun d => absurd d c0, fun _ => ⟨fun d => absurd d c1, fun _ => ⟨fun d => absurd d c2, fun _ => ⟨fun d => absurd d c3, fun _ => ⟨fun d => absurd d c4, fun _ => ⟨fun d => absurd d c5, fun _ => ⟨fun _ => ⟨hi, ?_, KP⟩, fun d => absurd c6 d⟩⟩⟩⟩⟩⟩⟩⟩
        rw [sy, psum_cg (lab' := M2 9) _ (fun j j0 j1 => by rw [hlab j ⟨j0, (by omega)⟩]; split <;> omega)]
        rfl
      · obtain ⟨-, -, -, -, -, hI⟩ := c_walk2 (i := x2) R1 hx1 (S1 x1 hp.1 hp.2 s4) P ⟨by omega, by omega⟩
        obtain ⟨q3, M3, E3, f3, lab, L3⟩ := c_holes hh (i := x2) (hs_pg hh hp.1 hp.2) (by omega) M1 a1 a2 a4 a6 a8 hi v5 v6 v7 v8 hbox.1 hbox.2
        obtain ⟨q4, M4, E4, f4, lab4, cnt4, ed4, L4, k4, r4⟩ := c_holesOf hm (i := x2) M2 P.1 P.2.1 a3 a4 a6 a7 a8
        refine rh2.sl (vX1_piece_153 hh E3 (LE0 rfl)) ?_
        refine rh2.r (rX32_piece_21 hm _ _ _ ?_)
        refine ⟨⟨by omega, by omega⟩, fun d => absurd hn d, fun _ => ⟨fun d => absurd d c0, fun _ => ⟨fun d => absurd d c1, fun _ => ⟨fun d => absurd d c2, fun _ => ⟨fun d => absurd d c3, fun _ => ⟨fun d => absurd d c4, fun _ => ⟨fun d => absurd d c5, fun _ => ⟨fun d => absurd d c6, fun _ => ⟨fun _ => ?_, fun d => absurd c7 d⟩⟩⟩⟩⟩⟩⟩⟩⟩
        refine rh2.sr (vX32_piece_161 hm E4 (LE0 rfl)) ?_
        refine rh2.l (rX1_piece_156 hh _ _ ?_)
        refine rh1.of (rX32_piece_164 hm _ _ ?_)
        refine ⟨?_, ⟨x1, hp, F1.tr (f3.w (fun a j h => by unfold Hw; omega))⟩, S1.fx f3 (fun p a j p0 p1 h => ⟨(by omega), (by omega)⟩), F2.tr (f4.w (fun a j h => by unfold Gw; omega))⟩
        have hH : Hls (Mm 4 x1) (Mm 5 x1) (M2 16 x2) (M2 17 x2) (M2 18 x2) (M2 19 x2) (pcH M1 (251 + 39 * x1) (Mm 4 x1) (Mm 5 x1) x2) lab4 lab cnt4 (q3 + 1) := by
          refine ⟨hbox.1, hbox.2, fun X Y hXY => ?_, L4.cols (fun k hk => not_congr ?_), L3⟩
          · obtain ⟨y1, y2, y3⟩ := (hI X Y).mp hXY
            have ib := ix_b y1.1 y1.2 y2.1 y2.2
            have dx := dm_x (W := Mm 4 x1) (u := X) (v := Y) y1.1 y1.2
            have := p3 _ ib y3
            rw [dx.1, dx.2] at this
            have hle := Int.ediv_le_ediv hx1 this.1
            rw [dx.2] at hle
            exact ⟨⟨(by omega), (by omega)⟩, ⟨(by omega), (by omega)⟩⟩
          · have dk := dm_b hx1 hk.1 hk.2
            rw [hI, ← dm k (Mm 4 x1)]
            exact ⟨fun y => ⟨dk.1, dk.2, y⟩, fun y => y.2.2⟩
        have := hH.count k4
        rw [r4, this]
        omega
      · obtain ⟨n, g, hw, hf0, hfe, hI⟩ := c_walk2 (i := x2) R1 hx1 (S1 x1 hp.1 hp.2 s4) P ⟨by omega, by omega⟩
        obtain ⟨r3, M3, E3, -, f3, t0, t1, t2⟩ := c_go hh (a := -1) (hs_pg hh hp.1 hp.2) (by omega) M1 a1 a2 hx1 a4 a6 a8 ⟨by omega, by omega⟩ hf0 hw
        rw [hfe] at hw hf0
        obtain ⟨r4, M4, E4, -, f4, u0, u1, u2⟩ := c_walkAround hm (a := -1) M2 P.1 P.2.1 hx1 a4 a6 a7 a8 ⟨by omega, by omega⟩ hf0 hI hw
        refine rh2.r (rX32_piece_21 hm _ _ _ ?_)
        refine ⟨⟨by omega, by omega⟩, fun d => absurd hn d, fun _ => ⟨fun d => absurd d c0, fun _ => ⟨fun d => absurd d c1, fun _ => ⟨fun d => absurd d c2, fun _ => ⟨fun d => absurd d c3, fun _ => ⟨fun d => absurd d c4, fun _ => ⟨fun d => absurd d c5, fun _ => ⟨fun d => absurd d c6, fun _ => ⟨fun d => absurd d c7, fun _ => ⟨fun _ => ?_, fun d => absurd c8 d⟩⟩⟩⟩⟩⟩⟩⟩⟩⟩
        refine rh2.sl (vX1_piece_165 hh E3 (LE0 rfl)) (rh2.sr (vX32_piece_168 hm E4 (LE0 rfl)) ?_)
        refine rh2.l (rX1_piece_168 hh _ _ ?_)
        refine rh1.of (rX32_piece_171 hm _ _ ?_)
        refine ⟨by rw [t0, t1, u0, u1], ⟨x1, hp, F1.tr (f3.w (fun a j h => by unfold Hw; omega))⟩, S1.fx f3 (fun p a j p0 p1 h => ⟨(by omega), (by omega)⟩), F2.tr (f4.w (fun a j h => by unfold Gw; omega))⟩
      · obtain ⟨n, g, hw, hf0, hfe, hI⟩ := c_walk2 (i := x2) R1 hx1 (S1 x1 hp.1 hp.2 s4) P ⟨by omega, by omega⟩
        obtain ⟨r3, M3, E3, -, f3, t0, t1, t2⟩ := c_go hh (a := -1) (hs_pg hh hp.1 hp.2) (by omega) M1 a1 a2 hx1 a4 a6 a8 ⟨by omega, by omega⟩ hf0 hw
        rw [hfe] at hw hf0
        obtain ⟨r4, M4, E4, -, f4, u0, u1, u2⟩ := c_walkAround hm (a := -1) M2 P.1 P.2.1 hx1 a4 a6 a7 a8 ⟨by omega, by omega⟩ hf0 hI hw
        refine rh2.r (rX32_piece_21 hm _ _ _ ?_)
        refine ⟨⟨by omega, by omega⟩, fun d => absurd hn d, fun _ => ⟨fun d => absurd d c0, fun _ => ⟨fun d => absurd d c1, fun _ => ⟨fun d => absurd d c2, fun _ => ⟨fun d => absurd d c3, fun _ => ⟨fun d => absurd d c4, fun _ => ⟨fun d => absurd d c5, fun _ => ⟨fun d => absurd d c6, fun _ => ⟨fun d => absurd d c7, fun _ => ⟨fun d => absurd d c8, fun _ => ⟨fun _ => ?_, fun d => absurd c9 d⟩⟩⟩⟩⟩⟩⟩⟩⟩⟩⟩
        refine rh2.sl (vX1_piece_165 hh E3 (LE0 rfl)) (rh2.sr (vX32_piece_168 hm E4 (LE0 rfl)) ?_)
        refine rh2.l (rX1_piece_168 hh _ _ ?_)
        refine rh1.of (rX32_piece_171 hm _ _ ?_)
        refine ⟨by rw [t0, t1, u0, u1], ⟨x1, hp, F1.tr (f3.w (fun a j h => by unfold Hw; omega))⟩, S1.fx f3 (fun p a j p0 p1 h => ⟨(by omega), (by omega)⟩), F2.tr (f4.w (fun a j h => by unfold Gw; omega))⟩
      · refine rh1.of (rX32_piece_21 hm _ _ _ ?_)
        exact ⟨⟨by omega, by omega⟩, fun d => absurd hn d, fun _ => ⟨fun d => absurd d c0, fun _ => ⟨fun d => absurd d c1, fun _ => ⟨fun d => absurd d c2, fun _ => ⟨fun d => absurd d c3, fun _ => ⟨fun d => absurd d c4, fun _ => ⟨fun d => absurd d c5, fun _ => ⟨fun d => absurd d c6, fun _ => ⟨fun d => absurd d c7, fun _ => ⟨fun d => absurd d c8, fun _ => ⟨fun d => absurd d c9, fun _ => ⟨rfl, KP⟩⟩⟩⟩⟩⟩⟩⟩⟩⟩⟩⟩
    · rw [rh_if_f hn] at er
      refine rh2.l (rX1_piece_6 hh _ _ _ _ _ ?_)
      refine ⟨fun _ => ?_, fun d => absurd er d⟩
      refine rh1.of (rX32_piece_21 hm _ _ _ ?_)
      exact ⟨⟨by omega, by omega⟩, fun _ => ⟨rfl, KP⟩, fun d => absurd hn d⟩
  · obtain ⟨er, eM⟩ := h1 c
    subst eM
    refine rh2.l (rX1_piece_6 hh _ _ _ _ _ ?_)
    refine ⟨fun _ => ?_, fun d => absurd er d⟩
    refine rh1.of (rX32_piece_0 hm _ _ _ _ ?_)
    rw [e4]
    exact ⟨fun z => ⟨by omega, by omega⟩, fun _ => ⟨rfl, ⟨0, by decide, frx.rf⟩, S, f0⟩, fun d => absurd c d⟩
end Piece
