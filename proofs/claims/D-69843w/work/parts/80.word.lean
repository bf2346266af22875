/-! ===== LAYER 2: one word (addWord, oneWord) ===== -/
section Word
variable {wh wm : rhW} {L T R B : Int → Int} {np : Int}
abbrev Fwd (x l w c j : Int) : Prop := (c = x + 9 ∧ j = 18) ∨ (c = x + 9 + 14 ∧ j = l) ∨ (x + 9 + 16 ≤ c ∧ c ≤ x + 9 + 22 ∧ j = w) ∨ c = x + 9 + 23
abbrev Gwd (p l w wp e c j : Int) : Prop := (c = 0 ∧ j = 73) ∨ (c = 26 ∧ j = p) ∨ (c = 38 ∧ j = 60 * p + l) ∨ (39 ≤ c ∧ c ≤ 45 ∧ j = 80 * p + w) ∨ (c = 46 ∧ 300 * p + wp ≤ j ∧ j < 300 * p + wp + e)
/-- a side that some member reaches -/
def Tgt (L : Int → Int) (a k v : Int) (m : Int → Int) : Prop := ∃ j, a ≤ j ∧ j < k ∧ L (m j) = v
def Tg4 (L T R B : Int → Int) (a e : Int) (M2 : rhM) (z : Int) (m : Int → Int) : Prop := Tgt L a e (M2 40 z) m ∧ Tgt T a e (M2 41 z) m ∧ Tgt R a e (M2 42 z) m ∧ Tgt B a e (M2 43 z) m
theorem tgS {L m : Int → Int} {a k v v' i : Int} (h : v = L i ∨ (a < k ∧ v = v')) (hi : m k = i) (h0 : a ≤ k) (g : a < k → Tgt L a k v' m) : Tgt L a (k + 1) v m := by
  rcases h with h | ⟨h1, h2⟩
  · exact ⟨k, h0, by omega, by rw [hi, h]⟩
  · obtain ⟨j, j0, j1, j2⟩ := g h1
    exact ⟨j, j0, by omega, by rw [j2, h2]⟩
theorem Tgt.fx {L L' m m' : Int → Int} {a e a' e' v d : Int} (h : Tgt L a e v m) (ha : a' = a + d) (he : e' = e + d) (hm : ∀ j, a ≤ j → j < e → L' (m' (j + d)) = L (m j)) : Tgt L' a' e' v m' := by
  obtain ⟨j, j0, j1, j2⟩ := h
  exact ⟨j + d, by omega, by omega, by rw [hm j j0 j1, j2]⟩
theorem Tg4.fx {L T R B L' T' R' B' m m' : Int → Int} {a e a' e' d z z' : Int} {M2 N2 : rhM} (h : Tg4 L T R B a e M2 z m) (ha : a' = a + d) (he : e' = e + d) (hv : ∀ c : Int, 40 ≤ c → c ≤ 43 → N2 c z' = M2 c z) (hm : ∀ j, a ≤ j → j < e → L' (m' (j + d)) = L (m j) ∧ T' (m' (j + d)) = T (m j) ∧ R' (m' (j + d)) = R (m j) ∧ B' (m' (j + d)) = B (m j)) : Tg4 L' T' R' B' a' e' N2 z' m' := by
  obtain ⟨h1, h2, h3, h4⟩ := h
  unfold Tg4
  rw [hv 40 (by omega) (by omega), hv 41 (by omega) (by omega), hv 42 (by omega) (by omega), hv 43 (by omega) (by omega)]
  exact ⟨h1.fx ha he (fun j j0 j1 => (hm j j0 j1).1), h2.fx ha he (fun j j0 j1 => (hm j j0 j1).2.1), h3.fx ha he (fun j j0 j1 => (hm j j0 j1).2.2.1), h4.fx ha he (fun j j0 j1 => (hm j j0 j1).2.2.2)⟩
/-- what is known of one word on both sides: w of line l, pieces from fr + a to fr + e of the members -/
def WdB (M1 M2 : rhM) (x p w l W H : Int) : Prop := M1 (x + 9 + 16) w = l ∧ M2 39 (80 * p + w) = l ∧ (M1 (x + 9 + 19) w = M2 40 (80 * p + w) ∧ M1 (x + 9 + 20) w = M2 41 (80 * p + w) ∧ M1 (x + 9 + 21) w = M2 42 (80 * p + w) ∧ M1 (x + 9 + 22) w = M2 43 (80 * p + w)) ∧ (0 ≤ M2 40 (80 * p + w) ∧ M2 40 (80 * p + w) < M2 42 (80 * p + w) ∧ M2 42 (80 * p + w) ≤ W) ∧ (0 ≤ M2 41 (80 * p + w) ∧ M2 41 (80 * p + w) < M2 43 (80 * p + w) ∧ M2 43 (80 * p + w) ≤ H) ∧ M2 43 (80 * p + w) ≤ M2 35 (60 * p + l) ∧ M2 34 (60 * p + l) ≤ M2 41 (80 * p + w)
theorem c_word (hh : rh_hs wh) (hm : rh_ms wm) {x p l w fr a e wp W H : Int} (hx : rh_bl wh 0 x 0) (hy : rh_bl wh 1 (x + 9) 0) (hx2 : 100 ≤ x) (hp : 0 ≤ p ∧ p < 8) (Mh Mm : rhM) (hPh : PcH Mh x np L T R B) (hPm : PcN Mm np L T R B) (hnp : 0 ≤ np ∧ np ≤ 300) (hpb : Pcb L T R B np) (hpw : ∀ i, 0 ≤ i → i < np → R i ≤ W ∧ B i ≤ H) (hw : Mh (x + 9) 18 = w) (hwm : Mm 26 p = w) (hw0 : 0 ≤ w ∧ w < 80) (hl : 0 ≤ l ∧ l < 60) (hfr : 0 ≤ fr) (ha : 0 ≤ a) (hae : a < e) (he : fr + e ≤ 300) (hm0 : ∀ j, a ≤ j → j < e → Mh (x + 9 + 15) (fr + j) = Mm 53 j ∧ 0 ≤ Mm 53 j ∧ Mm 53 j < np) (hwp : Mm 0 73 = wp) (hwp0 : 0 ≤ wp ∧ wp ≤ fr + a) (h14 : Mh (x + 9 + 14) l = Mm 38 (60 * p + l)) (h14b : 0 ≤ Mm 38 (60 * p + l) ∧ Mm 38 (60 * p + l) < 1000) (hbl : ∀ j, a ≤ j → j < e → B (Mm 53 j) ≤ Mm 35 (60 * p + l) ∧ Mm 34 (60 * p + l) ≤ T (Mm 53 j)) :
    rC2 wh YX30_addWord 1 [(2, x + 9), (2, x), (0, l), (0, fr + a), (0, fr + e)] Mh wm YX32_oneWord 1 [(2, 0), (0, p), (0, 60 * p + l), (0, a), (0, e)] Mm (fun r M1 r2 M2 => frx (Fwd x l w) Mh M1 ∧ frx (Gwd p l w wp (e - a)) Mm M2 ∧ WdB M1 M2 x p w l W H ∧ M1 (x + 9) 18 = w + 1 ∧ M2 26 p = w + 1 ∧ M1 (x + 9 + 14) l = Mm 38 (60 * p + l) + 1 ∧ M2 38 (60 * p + l) = Mm 38 (60 * p + l) + 1 ∧ M1 (x + 9 + 17) w = fr + a ∧ M1 (x + 9 + 18) w = fr + e ∧ M2 44 (80 * p + w) = e - a ∧ M2 45 (80 * p + w) = 300 * p + wp ∧ M2 0 73 = wp + (e - a) ∧ (∀ j, 0 ≤ j → j < e - a → M2 46 (300 * p + wp + j) = Mm 53 (a + j)) ∧ (∀ i, 0 ≤ i → i < np → (M1 (x + 9 + 23) i = Mh (x + 9 + 23) i ∧ ∀ j, a ≤ j → j < e → Mm 53 j ≠ i) ∨ (M1 (x + 9 + 23) i = w ∧ ∃ j, a ≤ j ∧ j < e ∧ Mm 53 j = i)) ∧ (∀ j, a ≤ j → j < e → M2 40 (80 * p + w) ≤ L (Mm 53 j) ∧ M2 41 (80 * p + w) ≤ T (Mm 53 j) ∧ R (Mm 53 j) ≤ M2 42 (80 * p + w) ∧ B (Mm 53 j) ≤ M2 43 (80 * p + w)) ∧ Tg4 L T R B a e M2 (80 * p + w) (Mm 53)) := by
  refine rC2.of (by decide) (LE0 rfl) (by decide) (LE0 rfl) ?_
  generalize hPost : (fun (r : Int) (M1 : rhM) (r2 : Int) (M2 : rhM) => frx (Fwd x l w) Mh M1 ∧ frx (Gwd p l w wp (e - a)) Mm M2 ∧ WdB M1 M2 x p w l W H ∧ M1 (x + 9) 18 = w + 1 ∧ M2 26 p = w + 1 ∧ M1 (x + 9 + 14) l = Mm 38 (60 * p + l) + 1 ∧ M2 38 (60 * p + l) = Mm 38 (60 * p + l) + 1 ∧ M1 (x + 9 + 17) w = fr + a ∧ M1 (x + 9 + 18) w = fr + e ∧ M2 44 (80 * p + w) = e - a ∧ M2 45 (80 * p + w) = 300 * p + wp ∧ M2 0 73 = wp + (e - a) ∧ (∀ j, 0 ≤ j → j < e - a → M2 46 (300 * p + wp + j) = Mm 53 (a + j)) ∧ (∀ i, 0 ≤ i → i < np → (M1 (x + 9 + 23) i = Mh (x + 9 + 23) i ∧ ∀ j, a ≤ j → j < e → Mm 53 j ≠ i) ∨ (M1 (x + 9 + 23) i = w ∧ ∃ j, a ≤ j ∧ j < e ∧ Mm 53 j = i)) ∧ (∀ j, a ≤ j → j < e → M2 40 (80 * p + w) ≤ L (Mm 53 j) ∧ M2 41 (80 * p + w) ≤ T (Mm 53 j) ∧ R (Mm 53 j) ≤ M2 42 (80 * p + w) ∧ B (Mm 53 j) ≤ M2 43 (80 * p + w)) ∧ Tg4 L T R B a e M2 (80 * p + w) (Mm 53)) = Post
  replace hm0 := Hid.mk hm0
  replace hbl := Hid.mk hbl
  refine rh2.l (rX30_addWord_0 hh _ _ _ _ _ _ hy hx ?_)
  simp (disch := omega) only [hw, rh_set_a]
  refine ⟨hw0, ?_⟩
  rintro _ rfl
  simp (disch := omega) only [hw, rh_set_a]
  refine ⟨hw0, ?_⟩
  rintro _ rfl
  simp (disch := omega) only [hw, rh_set_a]
  refine ⟨hw0, ?_⟩
  rintro _ rfl
  simp (disch := omega) only [hw, rh_set_a]
  refine ⟨hw0, ?_⟩
  rintro _ rfl
  simp (disch := omega) only [hw, rh_set_a]
  refine ⟨hw0, ?_⟩
  rintro _ rfl
  simp (disch := omega) only [hw, rh_set_a]
  refine ⟨hw0, ?_⟩
  rintro _ rfl
  simp (disch := omega) only [hw, rh_set_a]
  refine ⟨hw0, ?_⟩
  refine rh2.r (rX32_oneWord_0 hm _ _ _ _ _ ?_)
  rw [hwm]
  have wr : 0 ≤ 80 * p + w ∧ 80 * p + w < 640 := ⟨by omega, by omega⟩
  have lr : 0 ≤ 60 * p + l ∧ 60 * p + l < 480 := ⟨by omega, by omega⟩
  refine ⟨hp, fun c => by omega, fun _ => ⟨hp, ?_⟩⟩
  rintro _ rfl
  refine ⟨⟨by omega, by omega⟩, hp, hp, ⟨by omega, by omega⟩, ?_⟩
  rintro _ rfl
  simp (disch := omega) only [rh_set_a]
  refine ⟨lr, lr, ⟨by omega, by omega⟩, wr, ⟨by omega, by omega⟩, wr, wr, wr, wr, wr, ⟨by omega, by omega⟩, ?_⟩
  rintro _ rfl
  simp (disch := omega) only [rh_set_a, hwp]
  refine ⟨wr, ⟨by omega, by omega⟩, ?_⟩
  rw [show 60 * p + l - 60 * p = l by omega]
  have main : ∀ (vq : Nat) (k : Int) (M1 M2 : rhM), (e - k).toNat = vq → a ≤ k → k ≤ e → frx (Fwd x l w) Mh M1 → frx (Gwd p l w wp (e - a)) Mm M2 → M1 (x + 9) 18 = w → M2 26 p = w + 1 → M1 (x + 9 + 14) l = Mm 38 (60 * p + l) → M2 38 (60 * p + l) = Mm 38 (60 * p + l) + 1 → M1 (x + 9 + 16) w = l → M2 39 (80 * p + w) = l → M1 (x + 9 + 17) w = fr + a → M1 (x + 9 + 18) w = fr + e → M2 44 (80 * p + w) = e - a → M2 45 (80 * p + w) = 300 * p + wp → M2 0 73 = wp + (k - a) →
      Hid (∀ j, 0 ≤ j → j < k - a → M2 46 (300 * p + wp + j) = Mm 53 (a + j)) → Hid (∀ i, 0 ≤ i → i < np → (M1 (x + 9 + 23) i = Mh (x + 9 + 23) i ∧ ∀ j, a ≤ j → j < k → Mm 53 j ≠ i) ∨ (M1 (x + 9 + 23) i = w ∧ ∃ j, a ≤ j ∧ j < k ∧ Mm 53 j = i)) →
      Hid (∀ j, a ≤ j → j < k → M2 40 (80 * p + w) ≤ L (Mm 53 j) ∧ M2 41 (80 * p + w) ≤ T (Mm 53 j) ∧ R (Mm 53 j) ≤ M2 42 (80 * p + w) ∧ B (Mm 53 j) ≤ M2 43 (80 * p + w)) →
      Hid (a < k → Tg4 L T R B a k M2 (80 * p + w) (Mm 53)) →
      (k = a → M1 (x + 9 + 19) w = 128 ∧ M2 40 (80 * p + w) = 999 ∧ M1 (x + 9 + 20) w = 96 ∧ M2 41 (80 * p + w) = 999 ∧ M1 (x + 9 + 21) w = 0 ∧ M2 42 (80 * p + w) = 0 ∧ M1 (x + 9 + 22) w = 0 ∧ M2 43 (80 * p + w) = 0) →
      (a < k → (M1 (x + 9 + 19) w = M2 40 (80 * p + w) ∧ M1 (x + 9 + 20) w = M2 41 (80 * p + w) ∧ M1 (x + 9 + 21) w = M2 42 (80 * p + w) ∧ M1 (x + 9 + 22) w = M2 43 (80 * p + w)) ∧ (0 ≤ M2 40 (80 * p + w) ∧ M2 40 (80 * p + w) < M2 42 (80 * p + w) ∧ M2 42 (80 * p + w) ≤ W) ∧ (0 ≤ M2 41 (80 * p + w) ∧ M2 41 (80 * p + w) < M2 43 (80 * p + w) ∧ M2 43 (80 * p + w) ≤ H) ∧ M2 43 (80 * p + w) ≤ Mm 35 (60 * p + l) ∧ Mm 34 (60 * p + l) ≤ M2 41 (80 * p + w)) →
      rh2 wh YX30_addWord 1 77 [(0, 2, x + 9), (1, 2, x), (2, 0, l), (4, 0, fr + e), (5, 0, fr + k)] [] M1 wm YX32_oneWord 1 125 [(0, 2, 0), (1, 0, p), (4, 0, e), (5, 0, 80 * p + w), (6, 0, k)] [] M2 Post := by
    intro vq
    induction vq using Nat.strongRecOn with
    | ind vq ih =>
      intro k M1 M2 hvq k0 k1 f1 f2 g1 g2 g3 g4 g5 g6 g7 g8 g9 g10 g11 g12 g13 g16 g17 g14 g15
      replace g14 := Hid.mk g14
      replace g15 := Hid.mk g15
      have hP1 : PcH M1 x np L T R B := hPh.fx (f1 x 6 (by omega)) (fun a a0 a1 => f1.cell (fun j => (by omega)))
      have hP2 : PcN M2 np L T R B := hPm.fx (f2 0 31 (by omega)) (fun a a0 a1 => f2.cell (fun j => (by omega)))
      refine rh2.l (rX30_addWord_77 hh _ _ _ _ _ _ hy hx ?_)
      refine ⟨fun c => ?_, fun c => ?_⟩
      · obtain ⟨q1, q2, q3⟩ := hm0.out k k0 (by omega)
        have e1 : M1 (x + 9 + 15) (fr + k) = Mm 53 k := by rw [f1 _ _ (by omega), q1]
        have e2 : M2 53 k = Mm 53 k := f2 _ _ (by omega)
        rw [e1]
        generalize hi : Mm 53 k = i at *
        obtain ⟨b1, b2, b3, b4⟩ := hP1.2 i q2 q3
        obtain ⟨d1, d2, d3, d4⟩ := hP2.2 i q2 q3
        obtain ⟨pb1, pb2⟩ := hpb i q2 q3
        obtain ⟨pw1, pw2⟩ := hpw i q2 q3
        have hbk := hbl.out k k0 (by omega)
        rw [hi] at hbk
        have ir : 0 ≤ i ∧ i < 300 := ⟨by omega, by omega⟩
        refine ⟨⟨by omega, by omega⟩, ir, ?_⟩
        rintro _ rfl
        simp (disch := omega) only [rh_set_a, g1, b1]
        refine ⟨hw0, ir, fun v1 ev1 => ⟨hw0, ?_⟩⟩
        rintro _ rfl
        simp (disch := omega) only [rh_set_a, g1, b2]
        refine ⟨hw0, ir, fun v2 ev2 => ⟨hw0, ?_⟩⟩
        rintro _ rfl
        simp (disch := omega) only [rh_set_a, g1, b3]
        refine ⟨hw0, ir, fun v3 ev3 => ⟨hw0, ?_⟩⟩
        rintro _ rfl
        simp (disch := omega) only [rh_set_a, g1, b4]
        refine ⟨hw0, ir, fun v4 ev4 => ⟨hw0, ⟨by omega, by omega⟩, ?_⟩⟩
        refine rh2.r (rX32_oneWord_125 hm _ _ _ _ _ ?_)
        rw [e2, g11]
        refine ⟨fun _ => ⟨⟨by omega, by omega⟩, ⟨by omega, by omega⟩, ?_⟩, fun z => by omega⟩
        rintro _ rfl
        simp (disch := omega) only [rh_set_a, g11]
        refine ⟨⟨by omega, by omega⟩, ?_⟩
        rintro _ rfl
        simp (disch := omega) only [rh_set_a, d1]
        refine ⟨wr, ir, fun u1 eu1 => ⟨wr, wr, ir, ?_⟩⟩
        simp (disch := omega) only [rh_set_a, d2]
        refine fun u2 eu2 => ⟨wr, ?_⟩
        rintro _ rfl
        simp (disch := omega) only [rh_set_a, d3]
        refine ⟨wr, ir, fun u3 eu3 => ⟨wr, wr, ir, ?_⟩⟩
        simp (disch := omega) only [rh_set_a, d4]
        refine fun u4 eu4 => ⟨wr, ⟨by omega, by omega⟩, ?_⟩
        rw [rh_ifd] at ev1 ev2 ev3 ev4 eu1 eu2 eu3 eu4
        have vals : ((v1 = u1 ∧ v2 = u2 ∧ v3 = u3 ∧ v4 = u4) ∧ (0 ≤ u1 ∧ u1 < u3 ∧ u3 ≤ W) ∧ (0 ≤ u2 ∧ u2 < u4 ∧ u4 ≤ H) ∧ u4 ≤ Mm 35 (60 * p + l) ∧ Mm 34 (60 * p + l) ≤ u2) ∧ (u1 ≤ L i ∧ u2 ≤ T i ∧ R i ≤ u3 ∧ B i ≤ u4) ∧ (a < k → u1 ≤ M2 40 (80 * p + w) ∧ u2 ≤ M2 41 (80 * p + w) ∧ M2 42 (80 * p + w) ≤ u3 ∧ M2 43 (80 * p + w) ≤ u4) ∧ (u1 = L i ∨ (a < k ∧ u1 = M2 40 (80 * p + w))) ∧ (u2 = T i ∨ (a < k ∧ u2 = M2 41 (80 * p + w))) ∧ (u3 = R i ∨ (a < k ∧ u3 = M2 42 (80 * p + w))) ∧ (u4 = B i ∨ (a < k ∧ u4 = M2 43 (80 * p + w))) := by
          by_cases z : k = a
          · obtain ⟨z1, z2, z3, z4, z5, z6, z7, z8⟩ := g14.out z
            rw [z1] at ev1; rw [z2] at eu1; rw [z3] at ev2; rw [z4] at eu2; rw [z5] at ev3; rw [z6] at eu3; rw [z7] at ev4; rw [z8] at eu4
            rw [if_pos (by omega)] at ev1 ev2 ev3 ev4
            rw [if_neg (by omega)] at eu1 eu2 eu3 eu4
            exact ⟨by omega, by omega, fun _ => by omega, .inl (by omega), .inl (by omega), .inl (by omega), .inl (by omega)⟩
          · obtain ⟨⟨z1, z2, z3, z4⟩, z5, z6, z7⟩ := g15.out (by omega)
            rw [z1] at ev1; rw [z2] at ev2; rw [z3] at ev3; rw [z4] at ev4
            have y1 : v1 = u1 ∧ (u1 = L i ∨ u1 = M2 40 (80 * p + w)) ∧ u1 ≤ M2 40 (80 * p + w) ∧ u1 ≤ L i := by rw [ev1, eu1]; split <;> split <;> omega
            have y2 : v2 = u2 ∧ (u2 = T i ∨ u2 = M2 41 (80 * p + w)) ∧ u2 ≤ M2 41 (80 * p + w) ∧ u2 ≤ T i := by rw [ev2, eu2]; split <;> split <;> omega
            have y3 : v3 = u3 ∧ (u3 = R i ∨ u3 = M2 42 (80 * p + w)) ∧ M2 42 (80 * p + w) ≤ u3 ∧ R i ≤ u3 := by rw [ev3, eu3]; split <;> split <;> omega
            have y4 : v4 = u4 ∧ (u4 = B i ∨ u4 = M2 43 (80 * p + w)) ∧ M2 43 (80 * p + w) ≤ u4 ∧ B i ≤ u4 := by rw [ev4, eu4]; split <;> split <;> omega
            have ak : a < k := by omega
            have w1 := y1.2.1
            have w2 := y2.2.1
            have w3 := y3.2.1
            have w4 := y4.2.1
            exact ⟨by omega, by omega, fun _ => by omega, w1.imp id (fun h => ⟨ak, h⟩), w2.imp id (fun h => ⟨ak, h⟩), w3.imp id (fun h => ⟨ak, h⟩), w4.imp id (fun h => ⟨ak, h⟩)⟩
        clear ev1 ev2 ev3 ev4 eu1 eu2 eu3 eu4 g14 g15
        rw [show fr + k + 1 = fr + (k + 1) by omega, show 300 * p + (wp + (k - a)) = 300 * p + wp + (k - a) by omega]
        have F0 : frx (Fwd x l w) Mh M1 := f1
        refine ih _ (by omega) (k + 1) _ _ rfl (by omega) (by omega) (((((f1.st (by omega)).st (by omega)).st (by omega)).st (by omega)).st (by omega)) ((((((f2.st (by omega)).st (by omega)).st (by omega)).st (by omega)).st (by omega)).st (by omega)) ?_ ?_ ?_ ?_ ?_ ?_ ?_ ?_ ?_ ?_ ?_ (fun j j0 j1 => ?_) (fun t t0 t1 => ?_) (fun j j0 j1 => ?_) (fun _ => ?_) (fun z => by omega) (fun _ => ?_)
        · simp (disch := omega) only [rh_set_a, g1]
        · simp (disch := omega) only [rh_set_a, g2]
        · simp (disch := omega) only [rh_set_a, g3]
        · simp (disch := omega) only [rh_set_a, g4]
        · simp (disch := omega) only [rh_set_a, g5]
        · simp (disch := omega) only [rh_set_a, g6]
        · simp (disch := omega) only [rh_set_a, g7]
        · simp (disch := omega) only [rh_set_a, g8]
        · simp (disch := omega) only [rh_set_a, g9]
        · simp (disch := omega) only [rh_set_a, g10]
        · simp (disch := omega) only [rh_set_a, rh_set_s]; omega
        · simp (disch := omega) only [rh_set_a]
          by_cases z : j = k - a
          · rw [z, rh_set_s, show a + (k - a) = k by omega, hi]
          · rw [rh_set_j (by omega)]; exact g12.out j j0 (by omega)
        · simp (disch := omega) only [rh_set_a]
          by_cases z : t = i
          · rw [z, rh_set_s]; exact .inr ⟨rfl, k, k0, (by omega), hi⟩
          · rw [rh_set_j z]
            rcases g13.out t t0 t1 with ⟨y1, y2⟩ | ⟨y1, j, y2, y3, y4⟩
            · refine .inl ⟨y1, fun j j0 j1 => ?_⟩
              by_cases y : j = k
              · rw [y, hi]; exact fun q => z q.symm
              · exact y2 j j0 (by omega)
            · exact .inr ⟨y1, j, y2, (by omega), y4⟩
        · simp (disch := omega) only [rh_set_a, rh_set_s]
          by_cases y : j = k
          · rw [y, hi]; exact vals.2.1
          · have := g16.out j j0 (by omega)
            have := vals.2.2.1 (by omega)
            omega
        · refine ⟨?_, ?_, ?_, ?_⟩
          · simp (disch := omega) only [rh_set_a, rh_set_s]; exact tgS vals.2.2.2.1 hi k0 (fun z => (g17.out z).1)
          · simp (disch := omega) only [rh_set_a, rh_set_s]; exact tgS vals.2.2.2.2.1 hi k0 (fun z => (g17.out z).2.1)
          · simp (disch := omega) only [rh_set_a, rh_set_s]; exact tgS vals.2.2.2.2.2.1 hi k0 (fun z => (g17.out z).2.2.1)
          · simp (disch := omega) only [rh_set_a, rh_set_s]; exact tgS vals.2.2.2.2.2.2 hi k0 (fun z => (g17.out z).2.2.2)
        · simp (disch := omega) only [rh_set_a, rh_set_s]
          exact vals.1
      · have ek : k = e := (by omega)
        rw [ek] at g11 g12 g13 g15 g16 g17
        refine ⟨hl, hl, by rw [g3]; exact ⟨by omega, by omega⟩, ?_⟩
        rintro _ rfl
        simp (disch := omega) only [rh_set_a, g1]
        refine ⟨⟨by omega, by omega⟩, ?_⟩
        refine rh1.of (rX32_oneWord_125 hm _ _ _ _ _ ?_)
        refine ⟨fun z => by omega, fun _ => ?_⟩
        obtain ⟨y1, y2, y3, y4⟩ := g15.out hae
        rw [← hPost]
        refine ⟨(f1.st (by omega)).st (by omega), f2, ⟨?_, g6, ?_, y2, y3, by rw [f2 35 _ (by omega)]; exact y4.1, by rw [f2 34 _ (by omega)]; exact y4.2⟩, ?_, g2, ?_, g4, ?_, ?_, g9, g10, g11, g12.out, fun t t0 t1 => ?_, g16.out, g17.out hae⟩
        · simp (disch := omega) only [rh_set_a, g5]
        · simp (disch := omega) only [rh_set_a]; exact y1
        · rw [rh_set_s]
        · rw [rh_set_a (by omega), rh_set_s, g3]
        · simp (disch := omega) only [rh_set_a, g7]
        · simp (disch := omega) only [rh_set_a, g8]
        · simp (disch := omega) only [rh_set_a]; exact g13.out t t0 t1
  refine main _ a _ _ rfl (by omega) (by omega) (((((((frx.rf.st (by omega)).st (by omega)).st (by omega)).st (by omega)).st (by omega)).st (by omega)).st (by omega)) (((((((((frx.rf.st (by omega)).st (by omega)).st (by omega)).st (by omega)).st (by omega)).st (by omega)).st (by omega)).st (by omega)).st (by omega)) ?_ ?_ ?_ ?_ ?_ ?_ ?_ ?_ ?_ ?_ ?_ (fun j j0 j1 => by omega) (fun t t0 t1 => .inl ⟨?_, fun j j0 j1 => by omega⟩) (fun j j0 j1 => by omega) (fun z => by omega) (fun _ => ⟨?_, ?_, ?_, ?_, ?_, ?_, ?_, ?_⟩) (fun z => by omega)
  all_goals simp (disch := omega) only [rh_set_a, rh_set_s, hw, h14, hwp]
  all_goals try omega
end Word
