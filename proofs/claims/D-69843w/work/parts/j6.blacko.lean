/-! ===== LAYER 2: black ===== -/
section BlackO
variable {wh wm : rhW}
theorem w_bk210 {w : rhW} {h h' : Nat} {L : rhL} {S1 : List rhA} {M M0 : rhM} {r y0 p : Int} {y1 : Int} (hl : h' < h) (hb : rh_bl w 0 y0 p) (E : eC w YX29_lay h' [(2, y0), (2, y1)] M r M0) (hw1 : rh_wd S1 ≤ 8) : eS w YX1_black h 210 L ((2, y1) :: (2, y0) :: S1) M 213 L S1 M0 := by
  have hd : decode (ry_c YX1_black) 210 = .ok (.invokevirtual 319, 3) := (tdX1_black 210).resolve_right (by decide +kernel) ▸ (by decide +kernel : rh_dk dtX1_black 210 = .ok (.invokevirtual 319, 3))
  obtain ⟨ci, hci, hob⟩ := rh_obk (cis := [26]) (by decide +kernel) hb
  exact fun _ _ K => eA.cv (jX1_black_319 ci hci) hob hl hd rfl hw1 rfl E K
theorem c_takesA (hh : rh_hs wh) {A : rhM} {a b : Int} : eC wh YX9_takes 0 [(2, 16), (0, a), (0, b)] A 1 A := (icX9_takes hh).eC [16, a, b] A rfl (fun q hq => by cases hq) (by
  intro o ho
  simp only [ioX9_takes, List.mem_cons, List.not_mem_nil, or_false] at ho
  subst ho
  exact (rfl : (16 : Int) = 16))
theorem c_takesB (hh : rh_hs wh) {A : rhM} {a b : Int} : eC wh YX10_takes 1 [(2, 19), (0, a), (0, b)] A (rh_if (((0 ≤ a) ∧ (a ≤ 8)) ∧ ((1 ≤ b) ∧ (b ≤ 3))) (1 : Int) 0) A := (icX10_takes hh).eC [19, a, b] A rfl (fun q hq => by cases hq) (by
  intro o ho
  simp only [ioX10_takes, List.mem_cons, List.not_mem_nil, or_false] at ho
  subst ho
  exact (rfl : (19 : Int) = 19))
theorem c_takesC (hh : rh_hs wh) {A : rhM} {a b : Int} : eC wh YX11_takes 1 [(2, 20), (0, a), (0, b)] A (rh_if (((1 ≤ a) ∧ (a ≤ 255)) ∧ ((1 ≤ b) ∧ (b ≤ 7))) (1 : Int) 0) A := (icX11_takes hh).eC [20, a, b] A rfl (fun q hq => by cases hq) (by
  intro o ho
  simp only [ioX11_takes, List.mem_cons, List.not_mem_nil, or_false] at ho
  subst ho
  exact (rfl : (20 : Int) = 20))
theorem c_isBA (hh : rh_hs wh) {A : rhM} {x1 x y W H lv : Int} {g : Int → Int} (hx : rh_bl wh 5 x1 0) (P : Pgv A x1 g W H) (hl : A 16 3 = lv) (xx : 0 ≤ x ∧ x < W) (yy : 0 ≤ y ∧ y < H) : eC wh YX9_isBlack 1 [(2, 16), (2, x1), (0, x), (0, y)] A (rh_if (g (W * y + x) ≤ lv) (1 : Int) 0) A := by
  obtain ⟨e1, e2, W1, H1, hN, eg, gb⟩ := P
  have ik := ixW (u := x) (v := y) xx yy hN
  have E : eC wh YX9_isBlack 1 [(2, 16), (2, x1), (0, x), (0, y)] A (rh_if (rh_and (A (x1 + 1) (A x1 1 * y + x)) 255 ≤ A 16 3) (1 : Int) 0) A := (icX9_isBlack hh).eC [16, x1, x, y] A rfl (fun q hq => by
    simp only [ikX9_isBlack, List.mem_cons, List.not_mem_nil, or_false] at hq
    subst hq
    exact hx) (by
    intro o ho
    simp only [ioX9_isBlack, List.mem_cons, List.not_mem_nil, or_false] at ho
    rcases ho with ho | ho
    · subst ho
      exact (rfl : (16 : Int) = 16)
    · subst ho
      exact (show 0 ≤ A x1 1 * y + x ∧ A x1 1 * y + x < 6144 by rw [e1]; exact ⟨ik.1, ik.2.2⟩))
  rw [e1, eg _ ik.1 ik.2.1, hl] at E
  exact E
theorem c_beginA (hh : rh_hs wh) {A A' : rhM} {x1 r : Int} (hx : rh_bl wh 5 x1 0) (E : eC wh YX9_levelOf 1 [(2, 16), (2, x1)] A r A') : eC wh YX9_begin 2 [(2, 16), (2, x1)] A 0 (rh_set A' 16 3 r) := by
  refine eC.of1 (rC1.of (by decide) (LE0 rfl) ?_)
  refine rh1.of (rX9_begin_0 hh _ _ hx ?_)
  refine rh1.s (vX9_begin_3 hh E (LE0 rfl)) ?_
  refine rh1.of (rX9_begin_6 hh _ _ ?_)
  exact ⟨rfl, rfl⟩
theorem c_beginC (hh : rh_hs wh) {A A' : rhM} {x1 r : Int} (hx : rh_bl wh 5 x1 0) (E : eC wh YX9_levelOf 1 [(2, 16), (2, x1)] A r A') : eC wh YX11_begin 3 [(2, 20), (2, x1)] A 0 (rh_set A' 16 3 r) := by
  refine eC.of1 (rC1.of (by decide) (LE0 rfl) ?_)
  refine rh1.of (rX11_begin_0 hh _ _ hx ?_)
  refine rh1.s (vX11_begin_5 hh (c_beginA hh hx E) (LE0 rfl)) ?_
  refine rh1.of (rX11_begin_8 hh _ ?_)
  exact ⟨rfl, rfl⟩
theorem c_beginB (hh : rh_hs wh) {A : rhM} {x1 : Int} (hx : rh_bl wh 5 x1 0) : eC wh YX8_begin 0 [(2, 19), (2, x1)] A 0 A := by
  refine eC.of1 (rC1.of (by decide) (LE0 rfl) ?_)
  refine rh1.of (rX8_begin_0 hh _ _ hx ?_)
  exact ⟨rfl, rfl⟩
theorem h_maina (hh : rh_hs wh) {A A1 : rhM} {x1 x2 a b W H : Int} {f : Int → Int} (hp : 0 ≤ x1 ∧ x1 < 8) (hq : 0 ≤ x2 ∧ x2 < 8) (Bg : eC wh YX9_begin 2 [(2, 16), (2, 251 + 39 * x1)] (rh_set (rh_set A 16 0 a) 16 1 b) 0 A1) (e1 : A1 (251 + 39 * x1) 1 = W) (e2 : A1 (251 + 39 * x1) 2 = H) (hW : 0 ≤ W ∧ W ≤ 128) (hH : 0 ≤ H ∧ H ≤ 96) (hN0 : 0 ≤ W * H) (hN : W * H ≤ 6144)
    (E : ∀ M, frx (fun c _ => c = 9) (rh_set (rh_set A1 8 1 W) 8 2 H) M → ∀ x y, 0 ≤ x → x < W → 0 ≤ y → y < H → eC wh YX9_isBlack 3 [(2, 16), (2, 251 + 39 * x1), (0, x), (0, y)] M (f (W * y + x)) M) :
    ∃ M1, (∀ P : Int → rhM → Prop, P (bcn f (W * H).toNat) (m_lay M1 (251 + 39 * x2) 8) → rh1 wh YX1_black (3 + 1) 60 [(0, 2, 0), (1, 0, x1), (2, 0, x2), (4, 0, a), (5, 0, b)] [(2, 16)] A P) ∧ frx (fun c _ => c = 9) (rh_set (rh_set A1 8 1 W) 8 2 H) M1 ∧ Spi f M1 (W * H) := by
  have hx := hs_pg hh hp.1 hp.2
  obtain ⟨M1, L, g, s⟩ := h_rowsa hh (x2 := x2) hx (by omega) (show rh_set (rh_set A1 8 1 W) 8 2 H (251 + 39 * x1) 1 = W by rw [rh_set_a (by omega), rh_set_a (by omega)]; exact e1) (show rh_set (rh_set A1 8 1 W) 8 2 H (251 + 39 * x1) 2 = H by rw [rh_set_a (by omega), rh_set_a (by omega)]; exact e2) (by rw [rh_set_j (by decide), rh_set_s]) hW hH hN E H.toNat 0 (rh_set (rh_set A1 8 1 W) 8 2 H) (by omega) (by decide) frx.rf (fun i i0 i1 => by rw [Int.mul_zero] at i1; omega)
  rw [Int.mul_zero] at L
  have m2 : M1 (251 + 39 * x1) 2 = H := by rw [g _ _ (by omega), rh_set_a (by omega), rh_set_a (by omega)]; exact e2
  have q1 : M1 8 1 = W := by rw [g 8 1 (by decide), rh_set_j (by decide), rh_set_s]
  have q2 : M1 8 2 = H := by rw [g 8 2 (by decide), rh_set_s]
  refine ⟨M1, fun P HP => ?_, g, s⟩
  refine rh1.up (rX1_blacka_60 hh _ _ _ _ _ ?_)
  refine ⟨hp, rh1.s (vX1_blacka_88 hh (eC.up 1 Bg) (LE0 rfl)) ?_⟩
  refine rh1.up (rX1_blacka_91 hh _ _ _ hx ?_)
  rw [e1, e2]
  refine rh1.s L ?_
  refine rh1.up (rX1_blacka_114 hh _ _ _ _ _ hx ?_)
  rw [m2]
  refine ⟨fun z => by omega, fun _ => ⟨hq, rh1.s (w_bk210 (by decide) (hs_pg hh hq.1 hq.2) (c_lay hh (hs_pg hh hq.1 hq.2) (hs_sh hh) (by omega) M1 (by rw [q1, q2]; exact hN0) (by rw [q1, q2]; exact hN)) (LE0 rfl)) ?_⟩⟩
  refine rh1.up (rX1_blacka_213 hh _ _ ?_)
  exact HP
theorem h_mainb (hh : rh_hs wh) {A A1 : rhM} {x1 x2 a b W H : Int} {f : Int → Int} (hp : 0 ≤ x1 ∧ x1 < 8) (hq : 0 ≤ x2 ∧ x2 < 8) (Bg : eC wh YX8_begin 0 [(2, 19), (2, 251 + 39 * x1)] (rh_set (rh_set A 19 0 a) 19 1 b) 0 A1) (e1 : A1 (251 + 39 * x1) 1 = W) (e2 : A1 (251 + 39 * x1) 2 = H) (hW : 0 ≤ W ∧ W ≤ 128) (hH : 0 ≤ H ∧ H ≤ 96) (hN0 : 0 ≤ W * H) (hN : W * H ≤ 6144)
    (E : ∀ M, frx (fun c _ => c = 9) (rh_set (rh_set A1 8 1 W) 8 2 H) M → ∀ x y, 0 ≤ x → x < W → 0 ≤ y → y < H → eC wh YX10_isBlack 3 [(2, 19), (2, 251 + 39 * x1), (0, x), (0, y)] M (f (W * y + x)) M) :
    ∃ M1, (∀ P : Int → rhM → Prop, P (bcn f (W * H).toNat) (m_lay M1 (251 + 39 * x2) 8) → rh1 wh YX1_black (3 + 1) 60 [(0, 2, 0), (1, 0, x1), (2, 0, x2), (4, 0, a), (5, 0, b)] [(2, 19)] A P) ∧ frx (fun c _ => c = 9) (rh_set (rh_set A1 8 1 W) 8 2 H) M1 ∧ Spi f M1 (W * H) := by
  have hx := hs_pg hh hp.1 hp.2
  obtain ⟨M1, L, g, s⟩ := h_rowsb hh (x2 := x2) hx (by omega) (show rh_set (rh_set A1 8 1 W) 8 2 H (251 + 39 * x1) 1 = W by rw [rh_set_a (by omega), rh_set_a (by omega)]; exact e1) (show rh_set (rh_set A1 8 1 W) 8 2 H (251 + 39 * x1) 2 = H by rw [rh_set_a (by omega), rh_set_a (by omega)]; exact e2) (by rw [rh_set_j (by decide), rh_set_s]) hW hH hN E H.toNat 0 (rh_set (rh_set A1 8 1 W) 8 2 H) (by omega) (by decide) frx.rf (fun i i0 i1 => by rw [Int.mul_zero] at i1; omega)
  rw [Int.mul_zero] at L
  have m2 : M1 (251 + 39 * x1) 2 = H := by rw [g _ _ (by omega), rh_set_a (by omega), rh_set_a (by omega)]; exact e2
  have q1 : M1 8 1 = W := by rw [g 8 1 (by decide), rh_set_j (by decide), rh_set_s]
  have q2 : M1 8 2 = H := by rw [g 8 2 (by decide), rh_set_s]
  refine ⟨M1, fun P HP => ?_, g, s⟩
  refine rh1.up (rX1_blackb_60 hh _ _ _ _ _ ?_)
  refine ⟨hp, rh1.s (vX1_blackb_88 hh (eC.up 3 Bg) (LE0 rfl)) ?_⟩
  refine rh1.up (rX1_blackb_91 hh _ _ _ hx ?_)
  rw [e1, e2]
  refine rh1.s L ?_
  refine rh1.up (rX1_blackb_114 hh _ _ _ _ _ hx ?_)
  rw [m2]
  refine ⟨fun z => by omega, fun _ => ⟨hq, rh1.s (w_bk210 (by decide) (hs_pg hh hq.1 hq.2) (c_lay hh (hs_pg hh hq.1 hq.2) (hs_sh hh) (by omega) M1 (by rw [q1, q2]; exact hN0) (by rw [q1, q2]; exact hN)) (LE0 rfl)) ?_⟩⟩
  refine rh1.up (rX1_blackb_213 hh _ _ ?_)
  exact HP
theorem h_mainc (hh : rh_hs wh) {A A1 : rhM} {x1 x2 a b W H : Int} {f : Int → Int} (hp : 0 ≤ x1 ∧ x1 < 8) (hq : 0 ≤ x2 ∧ x2 < 8) (Bg : eC wh YX11_begin 3 [(2, 20), (2, 251 + 39 * x1)] (rh_set (rh_set A 20 0 a) 20 1 b) 0 A1) (e1 : A1 (251 + 39 * x1) 1 = W) (e2 : A1 (251 + 39 * x1) 2 = H) (hW : 0 ≤ W ∧ W ≤ 128) (hH : 0 ≤ H ∧ H ≤ 96) (hN0 : 0 ≤ W * H) (hN : W * H ≤ 6144)
    (E : ∀ M, frx (fun c _ => c = 9) (rh_set (rh_set A1 8 1 W) 8 2 H) M → ∀ x y, 0 ≤ x → x < W → 0 ≤ y → y < H → eC wh YX11_isBlack 3 [(2, 20), (2, 251 + 39 * x1), (0, x), (0, y)] M (f (W * y + x)) M) :
    ∃ M1, (∀ P : Int → rhM → Prop, P (bcn f (W * H).toNat) (m_lay M1 (251 + 39 * x2) 8) → rh1 wh YX1_black (3 + 1) 60 [(0, 2, 0), (1, 0, x1), (2, 0, x2), (4, 0, a), (5, 0, b)] [(2, 20)] A P) ∧ frx (fun c _ => c = 9) (rh_set (rh_set A1 8 1 W) 8 2 H) M1 ∧ Spi f M1 (W * H) := by
  have hx := hs_pg hh hp.1 hp.2
  obtain ⟨M1, L, g, s⟩ := h_rowsc hh (x2 := x2) hx (by omega) (show rh_set (rh_set A1 8 1 W) 8 2 H (251 + 39 * x1) 1 = W by rw [rh_set_a (by omega), rh_set_a (by omega)]; exact e1) (show rh_set (rh_set A1 8 1 W) 8 2 H (251 + 39 * x1) 2 = H by rw [rh_set_a (by omega), rh_set_a (by omega)]; exact e2) (by rw [rh_set_j (by decide), rh_set_s]) hW hH hN E H.toNat 0 (rh_set (rh_set A1 8 1 W) 8 2 H) (by omega) (by decide) frx.rf (fun i i0 i1 => by rw [Int.mul_zero] at i1; omega)
  rw [Int.mul_zero] at L
  have m2 : M1 (251 + 39 * x1) 2 = H := by rw [g _ _ (by omega), rh_set_a (by omega), rh_set_a (by omega)]; exact e2
  have q1 : M1 8 1 = W := by rw [g 8 1 (by decide), rh_set_j (by decide), rh_set_s]
  have q2 : M1 8 2 = H := by rw [g 8 2 (by decide), rh_set_s]
  refine ⟨M1, fun P HP => ?_, g, s⟩
  refine rh1.up (rX1_blackc_60 hh _ _ _ _ _ ?_)
  refine ⟨hp, rh1.s (vX1_blackc_88 hh Bg (LE0 rfl)) ?_⟩
  refine rh1.up (rX1_blackc_91 hh _ _ _ hx ?_)
  rw [e1, e2]
  refine rh1.s L ?_
  refine rh1.up (rX1_blackc_114 hh _ _ _ _ _ hx ?_)
  rw [m2]
  refine ⟨fun z => by omega, fun _ => ⟨hq, rh1.s (w_bk210 (by decide) (hs_pg hh hq.1 hq.2) (c_lay hh (hs_pg hh hq.1 hq.2) (hs_sh hh) (by omega) M1 (by rw [q1, q2]; exact hN0) (by rw [q1, q2]; exact hN)) (LE0 rfl)) ?_⟩⟩
  refine rh1.up (rX1_blackc_213 hh _ _ ?_)
  exact HP
end BlackO
