/-! ===== LAYER 2: the words of a line (findWords, wordsOfLine) ===== -/
section Words
variable {wh wm : rhW} {L T R B : Int → Int} {np : Int}
/-- words so far -/
def WdR (L T R B : Int → Int) (M1 M2 : rhM) (x p np W H ln tot wpc : Int) : Prop :=
 M1 (x + 9) 18 = M2 26 p ∧ (0 ≤ M2 26 p ∧ M2 26 p ≤ 80) ∧
 (∀ w, 0 ≤ w → w < M2 26 p → (∃ l, 0 ≤ l ∧ l < ln ∧ WdB M1 M2 x p w l W H) ∧ (0 ≤ M1 (x + 9 + 17) w ∧ M1 (x + 9 + 17) w < M1 (x + 9 + 18) w ∧ M1 (x + 9 + 18) w ≤ tot) ∧ M2 44 (80 * p + w) = M1 (x + 9 + 18) w - M1 (x + 9 + 17) w ∧ (300 * p ≤ M2 45 (80 * p + w) ∧ M2 45 (80 * p + w) + M2 44 (80 * p + w) ≤ 300 * p + wpc) ∧ (∀ j, 0 ≤ j → j < M2 44 (80 * p + w) → M2 46 (M2 45 (80 * p + w) + j) = M1 (x + 9 + 15) (M1 (x + 9 + 17) w + j)) ∧ (∀ q, M1 (x + 9 + 17) w ≤ q → q < M1 (x + 9 + 18) w → M2 40 (80 * p + w) ≤ L (M1 (x + 9 + 15) q) ∧ M2 41 (80 * p + w) ≤ T (M1 (x + 9 + 15) q) ∧ R (M1 (x + 9 + 15) q) ≤ M2 42 (80 * p + w) ∧ B (M1 (x + 9 + 15) q) ≤ M2 43 (80 * p + w))) ∧
 (∀ i, 0 ≤ i → i < np → -1 ≤ M1 (x + 9 + 23) i ∧ M1 (x + 9 + 23) i < M2 26 p ∧ ∀ w, 0 ≤ w → w < M2 26 p → (M1 (x + 9 + 23) i = w ↔ ∃ q, M1 (x + 9 + 17) w ≤ q ∧ q < M1 (x + 9 + 18) w ∧ M1 (x + 9 + 15) q = i)) ∧
 (∀ w, 0 ≤ w → w < M2 26 p → Tg4 L T R B (M1 (x + 9 + 17) w) (M1 (x + 9 + 18) w) M2 (80 * p + w) (M1 (x + 9 + 15))) ∧ (∀ w w', 0 ≤ w → w ≤ w' → w' < M2 26 p → M2 39 (80 * p + w) ≤ M2 39 (80 * p + w'))
theorem WdB.fx {M1 M2 N1 N2 : rhM} {x p w l W H : Int} (h : WdB M1 M2 x p w l W H) (h1 : ∀ a : Int, x + 9 + 16 ≤ a → a ≤ x + 9 + 22 → N1 a w = M1 a w) (h2 : ∀ a : Int, 39 ≤ a → a ≤ 43 → N2 a (80 * p + w) = M2 a (80 * p + w)) (h35 : N2 34 (60 * p + l) = M2 34 (60 * p + l) ∧ N2 35 (60 * p + l) = M2 35 (60 * p + l)) : WdB N1 N2 x p w l W H := by
  unfold WdB at h ⊢
  rw [h1 (x + 9 + 16) (by omega) (by omega), h1 (x + 9 + 19) (by omega) (by omega), h1 (x + 9 + 20) (by omega) (by omega), h1 (x + 9 + 21) (by omega) (by omega), h1 (x + 9 + 22) (by omega) (by omega), h2 39 (by omega) (by omega), h2 40 (by omega) (by omega), h2 41 (by omega) (by omega), h2 42 (by omega) (by omega), h2 43 (by omega) (by omega), h35.1, h35.2]
  exact h
theorem WdR.fx {M1 M2 N1 N2 : rhM} {x p W H ln tot wpc ln' tot' wpc' : Int} (h : WdR L T R B M1 M2 x p np W H ln tot wpc) (hl : ln ≤ ln') (ht : tot ≤ tot') (hw : wpc ≤ wpc') (h0 : N1 (x + 9) 18 = M1 (x + 9) 18) (h1 : ∀ a : Int, x + 9 + 16 ≤ a → a ≤ x + 9 + 23 → N1 a = M1 a) (h15 : ∀ j, j < tot → N1 (x + 9 + 15) j = M1 (x + 9 + 15) j) (k0 : N2 26 p = M2 26 p) (h2 : ∀ a j : Int, 39 ≤ a → a ≤ 45 → 80 * p ≤ j → j < 80 * p + 80 → N2 a j = M2 a j) (h46 : ∀ j, 300 * p ≤ j → j < 300 * p + wpc → N2 46 j = M2 46 j) (h35 : ∀ l, 0 ≤ l → l < ln → N2 34 (60 * p + l) = M2 34 (60 * p + l) ∧ N2 35 (60 * p + l) = M2 35 (60 * p + l)) : WdR L T R B N1 N2 x p np W H ln' tot' wpc' := by
  obtain ⟨a1, a2, a3, a4, a5, a6⟩ := h
  unfold WdR
  rw [k0, h0]
  refine ⟨a1, a2, fun w w0 w1 => ?_, fun i i0 i1 => ?_, fun w w0 w1 => ?_, fun w w' w0 w1 w2 => ?_⟩
  · obtain ⟨⟨l, b1, b2, b3⟩, b4, b5, b6, b7, b8⟩ := a3 w w0 w1
    rw [h1 (x + 9 + 17) (by omega) (by omega), h1 (x + 9 + 18) (by omega) (by omega), h2 44 _ (by omega) (by omega) (by omega) (by omega), h2 45 _ (by omega) (by omega) (by omega) (by omega), h2 40 _ (by omega) (by omega) (by omega) (by omega), h2 41 _ (by omega) (by omega) (by omega) (by omega), h2 42 _ (by omega) (by omega) (by omega) (by omega), h2 43 _ (by omega) (by omega) (by omega) (by omega)]
    refine ⟨⟨l, b1, (by omega), b3.fx (fun a a0 a1 => by rw [h1 a (by omega) (by omega)]) (fun a a0 a1 => h2 a _ (by omega) (by omega) (by omega) (by omega)) (h35 l b1 b2)⟩, ⟨by omega, by omega⟩, b5, ⟨by omega, by omega⟩, fun j j0 j1 => ?_, fun q q0 q1 => ?_⟩
    · rw [h46 _ (by omega) (by omega), h15 _ (by omega)]
      exact b7 j j0 j1
    · rw [h15 _ (by omega)]
      exact b8 q q0 q1
  · obtain ⟨b1, b2, b3⟩ := a4 i i0 i1
    rw [h1 (x + 9 + 23) (by omega) (by omega)]
    refine ⟨b1, b2, fun w w0 w1 => ?_⟩
    have c := (a3 w w0 w1).2.1
    rw [h1 (x + 9 + 17) (by omega) (by omega), h1 (x + 9 + 18) (by omega) (by omega), b3 w w0 w1]
    constructor
    · rintro ⟨q, q0, q1, q2⟩; exact ⟨q, q0, q1, by rw [h15 _ (by omega)]; exact q2⟩
    · rintro ⟨q, q0, q1, q2⟩; exact ⟨q, q0, q1, by rw [h15 _ (by omega)] at q2; exact q2⟩
  · have b4 := (a3 w w0 w1).2.1
    rw [h1 (x + 9 + 17) (by omega) (by omega), h1 (x + 9 + 18) (by omega) (by omega)]
    refine (a5 w w0 w1).fx (d := 0) (by omega) (by omega) (fun c c0 c1 => h2 c _ (by omega) (by omega) (by omega) (by omega)) (fun j j0 j1 => ?_)
    rw [Int.add_zero, h15 _ (by omega)]
    exact ⟨rfl, rfl, rfl, rfl⟩
  · rw [h2 39 _ (by omega) (by omega) (by omega) (by omega), h2 39 _ (by omega) (by omega) (by omega) (by omega)]
    exact a6 w w' w0 w1 w2
theorem WdR.cg {L' T' R' B' : Int → Int} {M1 M2 : rhM} {x p W H ln tot wpc : Int} (h : WdR L T R B M1 M2 x p np W H ln tot wpc) (hr : ∀ q, 0 ≤ q → q < tot → 0 ≤ M1 (x + 9 + 15) q ∧ M1 (x + 9 + 15) q < np) (e : ∀ i, 0 ≤ i → i < np → L' i = L i ∧ T' i = T i ∧ R' i = R i ∧ B' i = B i) : WdR L' T' R' B' M1 M2 x p np W H ln tot wpc := by
  obtain ⟨a1, a2, a3, a4, a5, a6⟩ := h
  refine ⟨a1, a2, fun w w0 w1 => ?_, a4, fun w w0 w1 => ?_, a6⟩
  rotate_left
  · have b4 := (a3 w w0 w1).2.1
    refine (a5 w w0 w1).fx (d := 0) (by omega) (by omega) (fun c c0 c1 => rfl) (fun j j0 j1 => ?_)
    rw [Int.add_zero]
    have r := hr j (by omega) (by omega)
    exact e _ r.1 r.2
  obtain ⟨b1, b2, b3, b4, b5, b6⟩ := a3 w w0 w1
  refine ⟨b1, b2, b3, b4, b5, fun q q0 q1 => ?_⟩
  have r := hr q (by omega) (by omega)
  obtain ⟨e1, e2, e3, e4⟩ := e _ r.1 r.2
  rw [e1, e2, e3, e4]
  exact b6 q q0 q1
theorem c_word80 (hm : rh_ms wm) {p a b e : Int} (hp : 0 ≤ p ∧ p < 8) (M : rhM) (h : M 26 p = 80) : eC wm YX32_oneWord 1 [(2, 0), (0, p), (0, a), (0, b), (0, e)] M 0 M := by
  refine eC.of1 (rC1.of (by decide) (LE0 rfl) ?_)
  refine rh1.of (rX32_oneWord_0 hm _ _ _ _ _ ?_)
  exact ⟨hp, fun _ => ⟨rfl, rfl⟩, fun z => absurd h z⟩
abbrev Ffw (x l c j : Int) : Prop := (c = x + 9 ∧ j = 18) ∨ (c = x + 9 + 14 ∧ j = l) ∨ (x + 9 + 16 ≤ c ∧ c ≤ x + 9 + 23) ∨ c = x + 9 + 26 ∨ c = x + 9 + 27
abbrev Gfw (p l c j : Int) : Prop := (c = 0 ∧ j = 73) ∨ (c = 26 ∧ j = p) ∨ (c = 38 ∧ j = 60 * p + l) ∨ (39 ≤ c ∧ c ≤ 45 ∧ 80 * p ≤ j ∧ j < 80 * p + 80) ∨ (c = 46 ∧ 300 * p ≤ j ∧ j < 300 * p + 300) ∨ c = 54 ∨ c = 55
/-- a word more -/
theorem WdR.add {M1 M2 N1 N2 : rhM} {x p W H l fr a e wpc : Int} (h : WdR L T R B M1 M2 x p np W H (l + 1) (fr + a) wpc) (hl : 0 ≤ l) (hfr : 0 ≤ fr) (ha : 0 ≤ a) (hae : a < e) (hw : M2 26 p < 80) (hm0 : ∀ j, a ≤ j → j < e → M1 (x + 9 + 15) (fr + j) = M2 53 j ∧ 0 ≤ M2 53 j ∧ M2 53 j < np) (hI : ∀ q q', 0 ≤ q → q < q' → q' < fr + e → M1 (x + 9 + 15) q ≠ M1 (x + 9 + 15) q') (hwp : 0 ≤ wpc ∧ wpc ≤ fr + a)
    (f1 : frx (Fwd x l (M2 26 p)) M1 N1) (f2 : frx (Gwd p l (M2 26 p) wpc (e - a)) M2 N2) (hB : WdB N1 N2 x p (M2 26 p) l W H) (h18 : N1 (x + 9) 18 = M2 26 p + 1) (h26 : N2 26 p = M2 26 p + 1) (h17 : N1 (x + 9 + 17) (M2 26 p) = fr + a) (h182 : N1 (x + 9 + 18) (M2 26 p) = fr + e) (h44 : N2 44 (80 * p + M2 26 p) = e - a) (h45 : N2 45 (80 * p + M2 26 p) = 300 * p + wpc) (h46 : ∀ j, 0 ≤ j → j < e - a → N2 46 (300 * p + wpc + j) = M2 53 (a + j)) (h23 : ∀ i, 0 ≤ i → i < np → (N1 (x + 9 + 23) i = M1 (x + 9 + 23) i ∧ ∀ j, a ≤ j → j < e → M2 53 j ≠ i) ∨ (N1 (x + 9 + 23) i = M2 26 p ∧ ∃ j, a ≤ j ∧ j < e ∧ M2 53 j = i)) (hul : ∀ j, a ≤ j → j < e → N2 40 (80 * p + M2 26 p) ≤ L (M2 53 j) ∧ N2 41 (80 * p + M2 26 p) ≤ T (M2 53 j) ∧ R (M2 53 j) ≤ N2 42 (80 * p + M2 26 p) ∧ B (M2 53 j) ≤ N2 43 (80 * p + M2 26 p)) (hT : Tg4 L T R B a e N2 (80 * p + M2 26 p) (M2 53)) : WdR L T R B N1 N2 x p np W H (l + 1) (fr + e) (wpc + (e - a)) := by
  obtain ⟨a1, a2, a3, a4, a5, a6⟩ := h
  have c15 : N1 (x + 9 + 15) = M1 (x + 9 + 15) := f1.cell (fun j => (by omega))
  unfold WdR
  rw [h18, h26, c15]
  generalize hw9 : M2 26 p = w9 at *
  replace h23 := Hid.mk h23
  replace hI := Hid.mk hI
  replace a4 := Hid.mk a4
  refine ⟨rfl, ⟨by omega, by omega⟩, fun w w0 w1 => ?_, fun i i0 i1 => ?_, fun w w0 w1 => ?_, fun w w' w0 w1 w2 => ?_⟩
  · by_cases q : w = w9
    · rw [q, h17, h182, h44, h45]
      refine ⟨⟨l, hl, (by omega), hB⟩, ⟨by omega, by omega⟩, (by omega), ⟨by omega, by omega⟩, fun j j0 j1 => ?_, fun q q0 q1 => ?_⟩
      · rw [h46 j j0 (by omega), show fr + a + j = fr + (a + j) by omega, (hm0 (a + j) (by omega) (by omega)).1]
      · have e1 := (hm0 (q - fr) (by omega) (by omega)).1
        rw [show fr + (q - fr) = q by omega] at e1
        rw [e1]
        exact hul (q - fr) (by omega) (by omega)
    · obtain ⟨⟨l', b1, b2, b3⟩, b4, b5, b6, b7, b8⟩ := a3 w w0 (by omega)
      rw [f1 (x + 9 + 17) w (by omega), f1 (x + 9 + 18) w (by omega), f2 44 (80 * p + w) (by omega), f2 45 (80 * p + w) (by omega), f2 40 (80 * p + w) (by omega), f2 41 (80 * p + w) (by omega), f2 42 (80 * p + w) (by omega), f2 43 (80 * p + w) (by omega)]
      refine ⟨⟨l', b1, b2, b3.fx (fun a a0 a1 => f1 a w (by omega)) (fun a a0 a1 => f2 a _ (by omega)) ⟨f2 34 _ (by omega), f2 35 _ (by omega)⟩⟩, ⟨by omega, by omega⟩, b5, ⟨by omega, by omega⟩, fun j j0 j1 => ?_, b8⟩
      rw [f2 46 _ (by omega)]
      exact b7 j j0 j1
  · obtain ⟨b1, b2, b3⟩ := a4.out i i0 i1
    rcases h23.out i i0 i1 with ⟨c1, c2⟩ | ⟨c1, j, c2, c3, c4⟩
    · rw [c1]
      refine ⟨b1, (by omega), fun w w0 w1 => ?_⟩
      by_cases q : w = w9
      · rw [q, h17, h182]
        refine ⟨fun z => by omega, fun z => ?_⟩
        obtain ⟨q, q0, q1, q2⟩ := z
        have := hm0 (q - fr) (by omega) (by omega)
        rw [show fr + (q - fr) = q by omega, q2] at this
        exact absurd this.1.symm (c2 (q - fr) (by omega) (by omega))
      · rw [f1 (x + 9 + 17) w (by omega), f1 (x + 9 + 18) w (by omega)]
        exact b3 w w0 (by omega)
    · rw [c1]
      refine ⟨(by omega), (by omega), fun w w0 w1 => ?_⟩
      by_cases q : w = w9
      · rw [q, h17, h182]
        exact ⟨fun _ => ⟨fr + j, (by omega), (by omega), by rw [(hm0 j c2 c3).1, c4]⟩, fun _ => rfl⟩
      · rw [f1 (x + 9 + 17) w (by omega), f1 (x + 9 + 18) w (by omega)]
        refine ⟨fun z => absurd z.symm q, fun z => ?_⟩
        obtain ⟨q, q0, q1, q2⟩ := z
        have b4 := (a3 w w0 (by omega)).2.1
        have := hI.out q (fr + j) (by omega) (by omega) (by omega)
        rw [q2, (hm0 j c2 c3).1, c4] at this
        exact absurd rfl this
  · by_cases q : w = w9
    · rw [q, h17, h182]
      refine hT.fx (d := fr) (by omega) (by omega) (fun c c0 c1 => rfl) (fun j j0 j1 => ?_)
      rw [show j + fr = fr + j by omega, (hm0 j j0 j1).1]
      exact ⟨rfl, rfl, rfl, rfl⟩
    · rw [f1 (x + 9 + 17) w (by omega), f1 (x + 9 + 18) w (by omega)]
      refine (a5 w w0 (by omega)).fx (d := 0) (by omega) (by omega) (fun c c0 c1 => f2 c _ (by omega)) (fun j j0 j1 => ?_)
      rw [Int.add_zero]
      exact ⟨rfl, rfl, rfl, rfl⟩
  · by_cases q : w = w9
    · rw [q, show w' = w9 by omega]; exact Int.le_refl _
    · obtain ⟨⟨l', b1, b2, b3⟩, -⟩ := a3 w w0 (by omega)
      by_cases q' : w' = w9
      · rw [q', hB.2.1, f2 39 _ (by omega), b3.2.1]; omega
      · rw [f2 39 _ (by omega), f2 39 _ (by omega)]; exact a6 w w' w0 w1 (by omega)
theorem c_findWords (hh : rh_hs wh) (hm : rh_ms wm) {x p l fr cnt wpc W H : Int} (hx : rh_bl wh 0 x 0) (hy : rh_bl wh 1 (x + 9) 0) (hx2 : 100 ≤ x) (hp : 0 ≤ p ∧ p < 8) (Mh Mm : rhM) (hPh : PcH Mh x np L T R B) (hPm : PcN Mm np L T R B) (hnp : 0 ≤ np ∧ np ≤ 300) (hpb : Pcb L T R B np) (hpw : ∀ i, 0 ≤ i → i < np → R i ≤ W ∧ B i ≤ H) (hl : 0 ≤ l ∧ l < 60) (h13 : Mh (x + 9 + 13) l = fr) (h13' : Mh (x + 9 + 13) (l + 1) = fr + cnt) (hc : 1 ≤ cnt) (hfr : 0 ≤ fr) (hfc : fr + cnt ≤ 300) (h70 : Mm 0 70 = cnt) (hm0 : ∀ j, 0 ≤ j → j < cnt → Mh (x + 9 + 15) (fr + j) = Mm 53 j ∧ 0 ≤ Mm 53 j ∧ Mm 53 j < np) (ht : Mh (x + 9 + 10) l = Mm 34 (60 * p + l) ∧ 0 ≤ Mm 34 (60 * p + l) ∧ Mm 34 (60 * p + l) ≤ 999) (hbt : Mh (x + 9 + 11) l = Mm 35 (60 * p + l) ∧ 0 ≤ Mm 35 (60 * p + l) ∧ Mm 35 (60 * p + l) ≤ 999) (h38 : Mm 38 (60 * p + l) = 0) (hI : ∀ q q', 0 ≤ q → q < q' → q' < fr + cnt → Mh (x + 9 + 15) q ≠ Mh (x + 9 + 15) q') (hW : WdR L T R B Mh Mm x p np W H (l + 1) fr wpc) (h73 : Mm 0 73 = wpc) (hwp : 0 ≤ wpc ∧ wpc ≤ fr) (hbl : ∀ j, 0 ≤ j → j < cnt → B (Mm 53 j) ≤ Mm 35 (60 * p + l) ∧ Mm 34 (60 * p + l) ≤ T (Mm 53 j)) :
    rC2 wh YX30_findWords 2 [(2, x + 9), (2, x), (0, l)] Mh wm YX32_wordsOfLine 2 [(2, 0), (0, p), (0, 60 * p + l)] Mm (fun r M1 r2 M2 => frx (Ffw x l) Mh M1 ∧ frx (Gfw p l) Mm M2 ∧ M1 (x + 9 + 14) l = M2 38 (60 * p + l) ∧ ∃ wpc', WdR L T R B M1 M2 x p np W H (l + 1) (fr + cnt) wpc' ∧ M2 0 73 = wpc' ∧ 0 ≤ wpc' ∧ wpc' ≤ fr + cnt) := by
  refine rC2.of (by decide) (LE0 rfl) (by decide) (LE0 rfl) ?_
  generalize hPost : (fun (r : Int) (M1 : rhM) (r2 : Int) (M2 : rhM) => frx (Ffw x l) Mh M1 ∧ frx (Gfw p l) Mm M2 ∧ M1 (x + 9 + 14) l = M2 38 (60 * p + l) ∧ ∃ wpc', WdR L T R B M1 M2 x p np W H (l + 1) (fr + cnt) wpc' ∧ M2 0 73 = wpc' ∧ 0 ≤ wpc' ∧ wpc' ≤ fr + cnt) = Post
  replace hm0 := Hid.mk hm0
  replace hI := Hid.mk hI
  replace hW := Hid.mk hW
  replace hbl := Hid.mk hbl
  have lr : 0 ≤ 60 * p + l ∧ 60 * p + l < 480 := ⟨by omega, by omega⟩
  refine rh2.l (rX30_findWords_0 hh _ _ _ _ hy hx ?_)
  rw [h13, h13']
  obtain ⟨z1, z2, z3⟩ := hm0.out 0 (by omega) (by omega)
  rw [Int.add_zero] at z1
  refine ⟨⟨by omega, by omega⟩, ⟨by omega, by omega⟩, fun n en => ⟨⟨by omega, by omega⟩, ⟨by omega, by omega⟩, by rw [z1]; exact ⟨by omega, by omega⟩, fun v ev => ?_⟩⟩
  replace en : n = cnt - 1 := (by omega)
  refine rh2.r (rX32_wordsOfLine_0 hm _ _ _ ?_)
  rw [h70]
  refine ⟨⟨by omega, by omega⟩, ?_⟩
  rw [← en]
  have ev2 : v = R (Mm 53 0) := by rw [ev, z1, (hPh.2 _ z2 z3).2.2.1]
  have key : ∀ (vq : Nat) (k eh em : Int) (M1 M2 : rhM), (n - k).toNat = vq → (0 ≤ k) → (k ≤ n) → (frx (Ffw x l) Mh M1) → (frx (Gfw p l) Mm M2) → (frx (fun c _ => c = x + 9 + 26) Mh M1) → (frx (fun c _ => c = 54) Mm M2) → (eh = (if R (Mm 53 k) < em then em else R (Mm 53 k))) → (0 ≤ em ∧ em ≤ 128) → ((∀ j, 0 ≤ j → j < k → M1 (x + 9 + 26) j = M2 54 j ∧ 0 ≤ M2 54 j ∧ M2 54 j ≤ 128)) → rh2 wh YX30_findWords 2 37 [(0, 2, x + 9), (1, 2, x), (2, 0, l), (3, 0, fr), (4, 0, n), (5, 0, eh), (6, 0, k)] [] M1 wm YX32_wordsOfLine 2 13 [(0, 2, 0), (1, 0, p), (2, 0, 60 * p + l), (3, 0, n), (4, 0, em), (5, 0, k)] [] M2 Post := by
    intro vq
    induction vq using Nat.strongRecOn with
    | ind vq ih =>
      intro k eh em M1 M2 hvq k0 k1 f1 f2 w1 w2 he e0 hg
      have hP1 : PcH M1 x np L T R B := hPh.fx (f1 x 6 (by omega)) (fun a a0 a1 => f1.cell (fun j => (by omega)))
      have hP2 : PcN M2 np L T R B := hPm.fx (f2 0 31 (by omega)) (fun a a0 a1 => f2.cell (fun j => (by omega)))
      have m53 : M2 53 = Mm 53 := f2.cell (fun j => (by omega))
      have m15 : M1 (x + 9 + 15) = Mh (x + 9 + 15) := f1.cell (fun j => (by omega))
      replace hg := Hid.mk hg
      obtain ⟨y1, y2, y3⟩ := hm0.out k (by omega) (by omega)
      have pk := hpb _ y2 y3
      have ehb : 0 ≤ eh ∧ eh ≤ 128 := by rw [he]; split <;> omega
      refine rh2.l (rX30_findWords_37 hh _ _ _ _ _ _ _ _ hy hx ?_)
      refine ⟨fun c => ⟨⟨by omega, by omega⟩, fun i ei => ?_⟩, fun c => ?_⟩
      · obtain ⟨u1, u2, u3⟩ := hm0.out (k + 1) (by omega) (by omega)
        have ei2 : i = Mm 53 (k + 1) := by rw [ei, m15, ← u1, show fr + (k + 1) = fr + k + 1 by omega]
        have pi := hpb _ u2 u3
        rw [← ei2] at u2 u3 pi
        obtain ⟨t1, -, t3, -⟩ := hP1.2 i u2 u3
        obtain ⟨s1, -, -, -⟩ := hP2.2 i u2 u3
        rw [t1]
        refine ⟨⟨by omega, by omega⟩, ⟨by omega, by omega⟩, fun g eg => ⟨⟨by omega, by omega⟩, ⟨by omega, by omega⟩, ?_⟩⟩
        simp (disch := omega) only [rh_set_a, t3]
        refine fun e' ee' => ⟨⟨by omega, by omega⟩, ?_⟩
        refine rh2.r (rX32_wordsOfLine_13 hm _ _ _ _ _ _ ?_)
        rw [m53, (hP2.2 _ y2 y3).2.2.1]
        refine ⟨fun _ => ⟨⟨by omega, by omega⟩, ⟨by omega, by omega⟩, fun e2 ee2 => ⟨⟨by omega, by omega⟩, ?_⟩⟩, fun z => absurd c z⟩
        rw [← ei2, s1]
        have e2h : e2 = eh := by rw [ee2, rh_ifd, he]
        rw [e2h]
        refine ⟨⟨by omega, by omega⟩, ⟨by omega, by omega⟩, fun g2 eg2 => ⟨⟨by omega, by omega⟩, ⟨by omega, by omega⟩, ?_⟩⟩
        have gg : g2 = g ∧ 0 ≤ g ∧ g ≤ 128 := by
          rw [eg2, eg, rh_ifd, rh_ifd]; split <;> split <;> omega
        rw [gg.1]
        refine ih _ (by omega) (k + 1) e' eh _ _ rfl (by omega) (by omega) (f1.st (by omega)) (f2.st (by omega)) (w1.st rfl) (w2.st rfl) ?_ ehb (fun j j0 j1 => ?_)
        · rw [ee', ← ei2, rh_ifd]; split <;> split <;> omega
        · by_cases q : j = k
          · rw [q, rh_set_s, rh_set_s]; exact ⟨rfl, gg.2⟩
          · rw [rh_set_j q, rh_set_j q]; exact hg.out j j0 (by omega)
      · refine rh2.r (rX32_wordsOfLine_13 hm _ _ _ _ _ _ ?_)
        refine ⟨fun z => absurd z c, fun _ => ?_⟩
        have kn : k = n := (by omega)
        rw [kn] at hg
        obtain ⟨r1, N1, r2, N2, E1, E2, er, g1, g2, rb⟩ := c_parted hh hm (n := n) hy (by omega) ⟨by omega, by omega⟩ M1 M2 hg.out
        refine rh2.sl (vX30_findWords_101 hy E1 (LE0 rfl)) ?_
        refine rh2.sr (vX32_wordsOfLine_74 hm E2 (LE0 rfl)) ?_
        rw [← er]
        refine rh2.l (rX30_findWords_104 hh _ _ _ _ _ _ _ hy hx ?_)
        refine ⟨hl, ?_⟩
        refine rh2.r (rX32_wordsOfLine_77 hm _ _ _ _ _ ?_)
        have gp : ∀ j, 0 ≤ j → j < n → N1 (x + 9 + 26) j = N2 54 j ∧ 0 ≤ N2 54 j ∧ N2 54 j ≤ 128 := fun j j0 j1 => by
          rw [g1 _ _ (by omega), g2 _ _ (by omega)]; exact hg.out j j0 j1
        replace gp := Hid.mk gp
        have q1 : frx (Ffw x l) Mh N1 := f1.tr (g1.w (fun a j h => by unfold Ffw; omega))
        have q2 : frx (Gfw p l) Mm N2 := f2.tr (g2.w (fun a j h => by unfold Gfw; omega))
        have hW1 : WdR L T R B (rh_set N1 (x + 9 + 14) l 0) N2 x p np W H (l + 1) (fr + 0) wpc := by
          refine hW.out.fx (by omega) (by omega) (by omega) ?_ (fun a a0 a1 => ?_) (fun j _ => ?_) ?_ (fun a j a0 a1 j0 j1 => ?_) (fun j j0 j1 => ?_) (fun l' _ _ => ?_)
          · rw [rh_set_a (by omega), g1 _ _ (by omega), w1 _ _ (by omega)]
          · rw [rh_set_n (by omega), g1.cell (fun j => (by omega)), w1.cell (fun j => (by omega))]
          · rw [rh_set_a (by omega), g1 _ _ (by omega), w1 _ _ (by omega)]
          · rw [g2 _ _ (by omega), w2 _ _ (by omega)]
          · rw [g2 _ _ (by omega), w2 _ _ (by omega)]
          · rw [g2 _ _ (by omega), w2 _ _ (by omega)]
          · exact ⟨by rw [g2 _ _ (by omega), w2 _ _ (by omega)], by rw [g2 _ _ (by omega), w2 _ _ (by omega)]⟩
        have i38 : N2 38 (60 * p + l) = 0 := by rw [g2 _ _ (by omega), w2 _ _ (by omega), h38]
        have i73 : N2 0 73 = wpc := by rw [g2 _ _ (by omega), w2 _ _ (by omega), h73]
        clear hg
        have main : ∀ (vq : Nat) (k a wq : Int) (A1 A2 : rhM), (n + 1 - k).toNat = vq → (0 ≤ k) → (k ≤ n + 1) → (0 ≤ a ∧ a ≤ k) → ((k = n + 1 → a = n + 1)) → (frx (Ffw x l) Mh A1) → (frx (Gfw p l) Mm A2) → (Hid (∀ j, 0 ≤ j → j < n → A1 (x + 9 + 26) j = A2 54 j ∧ 0 ≤ A2 54 j ∧ A2 54 j ≤ 128)) → (WdR L T R B A1 A2 x p np W H (l + 1) (fr + a) wq) → (A2 0 73 = wq) → (0 ≤ wq ∧ wq ≤ fr + a) → (A1 (x + 9 + 14) l = A2 38 (60 * p + l)) → (0 ≤ A2 38 (60 * p + l) ∧ A2 38 (60 * p + l) ≤ k) → rh2 wh YX30_findWords 2 119 [(0, 2, x + 9), (1, 2, x), (2, 0, l), (3, 0, fr), (4, 0, n), (6, 0, r1), (7, 0, fr + a), (8, 0, k)] [] A1 wm YX32_wordsOfLine 2 85 [(0, 2, 0), (1, 0, p), (2, 0, 60 * p + l), (3, 0, n), (5, 0, r1), (6, 0, a), (7, 0, k)] [] A2 Post := by
          intro vq
          induction vq using Nat.strongRecOn with
          | ind vq ihm =>
            intro k a wq A1 A2 hvq k0 k1 a0 aN F1 F2 gp hW1 i73 hwq i14 i38
            have hP1 : PcH A1 x np L T R B := hPh.fx (F1 x 6 (by omega)) (fun a a0 a1 => F1.cell (fun j => (by omega)))
            have hP2 : PcN A2 np L T R B := hPm.fx (F2 0 31 (by omega)) (fun a a0 a1 => F2.cell (fun j => (by omega)))
            have hb18 := hW1.1
            have hb26 := hW1.2.1
            have m53 : A2 53 = Mm 53 := F2.cell (fun j => (by omega))
            have m15 : A1 (x + 9 + 15) = Mh (x + 9 + 15) := F1.cell (fun j => (by omega))
            have t1 : A1 (x + 9 + 10) l = Mm 34 (60 * p + l) := by rw [F1 _ _ (by omega), ht.1]
            have t2 : A1 (x + 9 + 11) l = Mm 35 (60 * p + l) := by rw [F1 _ _ (by omega), hbt.1]
            have t3 : A2 34 (60 * p + l) = Mm 34 (60 * p + l) := F2 _ _ (by omega)
            have t4 : A2 35 (60 * p + l) = Mm 35 (60 * p + l) := F2 _ _ (by omega)
            replace hW1 := Hid.mk hW1
            replace aN := Hid.mk aN
            by_cases hk : k ≤ n
            · have fin : ∀ v, (v = 0 ∨ v = 1) → (∀ (pc : Nat) (L' : rhL) (S' : List rhA) (N : rhM), (v ≠ 0 → rh2 wh YX30_findWords 2 pc L' S' N wm YX32_wordsOfLine 2 164 [(0, 2, 0), (1, 0, p), (2, 0, 60 * p + l), (3, 0, n), (5, 0, r1), (7, 0, k)] [(3, k + 1), (0, a), (0, 60 * p + l), (0, p), (2, 0)] A2 Post) → (v = 0 → rh2 wh YX30_findWords 2 pc L' S' N wm YX32_wordsOfLine 2 85 [(0, 2, 0), (1, 0, p), (2, 0, 60 * p + l), (3, 0, n), (5, 0, r1), (6, 0, a), (7, 0, k + 1)] [] A2 Post) → rh2 wh YX30_findWords 2 pc L' S' N wm YX32_wordsOfLine 2 85 [(0, 2, 0), (1, 0, p), (2, 0, 60 * p + l), (3, 0, n), (5, 0, r1), (6, 0, a), (7, 0, k)] [] A2 Post) → (k = n → v = 1) → ((v ≠ 0 ∧ A1 (x + 9) 18 < 80) → rh2 wh YX30_findWords 2 203 [(0, 2, x + 9), (1, 2, x), (2, 0, l), (3, 0, fr), (4, 0, n), (6, 0, r1), (7, 0, fr + a), (8, 0, k), (9, 0, v)] [(3, fr + k + 1), (0, fr + a), (0, l), (2, x), (2, x + 9)] A1 wm YX32_wordsOfLine 2 85 [(0, 2, 0), (1, 0, p), (2, 0, 60 * p + l), (3, 0, n), (5, 0, r1), (6, 0, a), (7, 0, k)] [] A2 Post) ∧ (¬ (v ≠ 0 ∧ A1 (x + 9) 18 < 80) → ∀ u, u = rh_if (v ≠ 0) (fr + k + 1) (fr + a) → rI u ∧ rI (k + 1) ∧ rh2 wh YX30_findWords 2 119 [(0, 2, x + 9), (1, 2, x), (2, 0, l), (3, 0, fr), (4, 0, n), (6, 0, r1), (7, 0, u), (8, 0, k + 1)] [] A1 wm YX32_wordsOfLine 2 85 [(0, 2, 0), (1, 0, p), (2, 0, 60 * p + l), (3, 0, n), (5, 0, r1), (6, 0, a), (7, 0, k)] [] A2 Post) := by
                intro v hv mf hkn
                replace hv := Hid.mk hv
                replace hkn := Hid.mk hkn
                refine ⟨fun c => ?_, fun c u eu => ?_⟩
                · have hm1 : ∀ j, a ≤ j → j < k + 1 → A1 (x + 9 + 15) (fr + j) = A2 53 j ∧ 0 ≤ A2 53 j ∧ A2 53 j < np := fun j j0 j1 => by rw [m15, m53]; exact hm0.out j (by omega) (by omega)
                  have hI1 : ∀ q q', 0 ≤ q → q < q' → q' < fr + (k + 1) → A1 (x + 9 + 15) q ≠ A1 (x + 9 + 15) q' := fun q q' q0 q1 q2 => by rw [m15]; exact hI.out q q' q0 q1 (by omega)
                  obtain ⟨s1, B1, s2, B2, D1, D2, u1, u2, u3, u4, u5, u6, u7, u8, u9, u10, u11, u12, u13, u14, u15, u16⟩ := c_word hh hm hx hy hx2 hp A1 A2 hP1 hP2 hnp hpb hpw hb18 rfl (show 0 ≤ A2 26 p ∧ A2 26 p < 80 by omega) hl hfr a0.1 (show a < k + 1 by omega) (by omega) hm1 i73 hwq i14 ⟨by omega, by omega⟩ (fun j j0 j1 => by rw [m53, t3, t4]; exact hbl.out j (by omega) (by omega))
                  have hW2 := hW1.out.add hl.1 hfr a0.1 (show a < k + 1 by omega) (by omega) hm1 hI1 hwq u1 u2 u3 u4 u5 u8 u9 u10 u11 u13 u14 u15 u16
                  clear u3 u13 u14 u15 u16 hm1 hI1
                  rw [show fr + k + 1 = fr + (k + 1) by omega]
                  refine rh2.sl (eS.fx 0 (x := fr + (k + 1)) rfl ⟨by omega, by omega⟩ rfl) ?_
                  refine rh2.sl (vX30_findWords_203 hy D1 (LE0 rfl)) ?_
                  refine rh2.l (rX30_findWords_206 hh _ _ _ _ _ _ _ _ _ _ hy hx ?_)
                  intro u eu
                  rw [rh_if_t c.1] at eu
                  refine ⟨⟨by omega, by omega⟩, ⟨by omega, by omega⟩, mf _ _ _ _ (fun _ => ?_) (fun z => absurd z c.1)⟩
                  refine rh2.sr (eS.fx 0 (x := k + 1) rfl ⟨by omega, by omega⟩ rfl) (rh2.sr (vX32_wordsOfLine_164 hm D2 (LE0 rfl)) ?_)
                  refine rh2.r (rX32_wordsOfLine_167 hm _ _ _ _ _ _ ?_)
                  refine ⟨⟨by omega, by omega⟩, ⟨by omega, by omega⟩, ?_⟩
                  rw [eu, show fr + k + 1 = fr + (k + 1) by omega]
                  refine ihm _ (by omega) (k + 1) (k + 1) (wq + (k + 1 - a)) B1 B2 rfl (by omega) (by omega) ⟨by omega, by omega⟩ (fun _ => by omega) (F1.tr (u1.w (fun c j h => by unfold Ffw; omega))) (F2.tr (u2.w (fun c j h => by unfold Gfw; omega))) (fun j j0 j1 => ?_) hW2 u12 ⟨by omega, by omega⟩ (by rw [u6, u7]) (by rw [u7]; omega)
                  rw [u1 _ _ (by omega), u2 _ _ (by omega)]; exact gp.out j j0 j1
                · by_cases hv0 : v = 0
                  · rw [rh_if_f (fun z => z hv0)] at eu
                    have : k ≠ n := fun z => by have := hkn.out z; omega
                    rw [eu]
                    exact ⟨⟨by omega, by omega⟩, ⟨by omega, by omega⟩, mf _ _ _ _ (fun z => absurd hv0 z) (fun _ => ihm _ (by omega) (k + 1) a wq A1 A2 rfl (by omega) (by omega) ⟨by omega, by omega⟩ (fun _ => by omega) F1 F2 gp hW1.out i73 hwq i14 ⟨by omega, by omega⟩)⟩
                  · rw [rh_if_t hv0] at eu
                    have h80 : A2 26 p = 80 := by
                      by_cases z : A1 (x + 9) 18 < 80
                      · exact absurd ⟨hv0, z⟩ c
                      · omega
                    refine ⟨⟨by omega, by omega⟩, ⟨by omega, by omega⟩, mf _ _ _ _ (fun _ => ?_) (fun z => absurd z hv0)⟩
                    refine rh2.sr (eS.fx 0 (x := k + 1) rfl ⟨by omega, by omega⟩ rfl) (rh2.sr (vX32_wordsOfLine_164 hm (c_word80 hm hp A2 h80) (LE0 rfl)) ?_)
                    refine rh2.r (rX32_wordsOfLine_167 hm _ _ _ _ _ _ ?_)
                    refine ⟨⟨by omega, by omega⟩, ⟨by omega, by omega⟩, ?_⟩
                    rw [eu, show fr + k + 1 = fr + (k + 1) by omega]
                    exact ihm _ (by omega) (k + 1) (k + 1) wq A1 A2 rfl (by omega) (by omega) ⟨by omega, by omega⟩ (fun _ => by omega) F1 F2 gp (hW1.out.fx (by omega) (by omega) (by omega) rfl (fun _ _ _ => rfl) (fun _ _ => rfl) rfl (fun _ _ _ _ _ _ => rfl) (fun _ _ _ => rfl) (fun _ _ _ => ⟨rfl, rfl⟩)) i73 ⟨by omega, by omega⟩ i14 ⟨by omega, by omega⟩
              replace fin := Hid.mk fin
              refine rh2.l (rX30_findWords_119 hh _ _ _ _ _ _ _ _ _ hy hx ?_)
              rw [t1, t2]
              refine ⟨fun _ => ⟨fun d => ⟨fun e => ?_, fun e => ?_⟩, fun d v ev => ?_⟩, fun z => absurd hk z⟩
              · obtain ⟨p1, p2, p3⟩ := gp.out k (by omega) (by omega)
                rw [p1]
                refine ⟨⟨by omega, by omega⟩, hl, hl, ⟨by omega, by omega⟩, ⟨by omega, by omega⟩, fun v ev => fin.out v ?_ (fun pc L' S' N h1 h2 => ?_) (fun z => absurd z d)⟩
                · have := if1_b (P := Mm 35 (60 * p + l) - Mm 34 (60 * p + l) ≤ 2 * A2 54 k); omega
                · refine rh2.r (rX32_wordsOfLine_85 hm _ _ _ _ _ _ _ ?_)
                  rw [t3, t4]
                  refine ⟨fun _ => ⟨fun _ => ⟨fun z => absurd e z, fun _ => ⟨⟨by omega, by omega⟩, lr, lr, ⟨by omega, by omega⟩, ⟨by omega, by omega⟩, fun v' ev' => ?_⟩⟩, fun z => absurd d z⟩, fun z => absurd hk z⟩
                  have vv : v' = v := ev'.trans ev.symm
                  rw [vv]
                  exact ⟨h1, fun z => ⟨⟨by omega, by omega⟩, h2 (by omega)⟩⟩
              · obtain ⟨p1, p2, p3⟩ := gp.out k (by omega) (by omega)
                rw [p1]
                refine ⟨⟨by omega, by omega⟩, fun v ev => fin.out v ?_ (fun pc L' S' N h1 h2 => ?_) (fun z => absurd z d)⟩
                · have := if1_b (P := r1 < A2 54 k); omega
                · refine rh2.r (rX32_wordsOfLine_85 hm _ _ _ _ _ _ _ ?_)
                  refine ⟨fun _ => ⟨fun _ => ⟨fun _ => ⟨⟨by omega, by omega⟩, fun v' ev' => ?_⟩, fun z => absurd e z⟩, fun z => absurd d z⟩, fun z => absurd hk z⟩
                  have vv : v' = v := ev'.trans ev.symm
                  rw [vv]
                  exact ⟨h1, fun z => ⟨⟨by omega, by omega⟩, h2 (by omega)⟩⟩
              · refine fin.out v (.inr ev) (fun pc L' S' N h1 h2 => ?_) (fun _ => ev)
                refine rh2.r (rX32_wordsOfLine_85 hm _ _ _ _ _ _ _ ?_)
                refine ⟨fun _ => ⟨fun z => absurd z d, fun _ v' ev' => ?_⟩, fun z => absurd hk z⟩
                have vv : v' = v := ev'.trans ev.symm
                rw [vv]
                exact ⟨h1, fun z => ⟨⟨by omega, by omega⟩, h2 (by omega)⟩⟩
            · refine rh2.l (rX30_findWords_119 hh _ _ _ _ _ _ _ _ _ hy hx ?_)
              refine ⟨fun z => absurd z hk, fun _ => ?_⟩
              refine rh1.of (rX32_wordsOfLine_85 hm _ _ _ _ _ _ _ ?_)
              refine ⟨fun z => absurd z hk, fun _ => ?_⟩
              have ha := aN.out (by omega)
              rw [← hPost]
              refine ⟨F1, F2, i14, wq, ?_, i73, hwq.1, (by omega)⟩
              have := hW1.out
              rw [ha, show fr + (n + 1) = fr + cnt by omega] at this
              exact this
        have h0 := main _ 0 0 wpc (rh_set N1 (x + 9 + 14) l 0) N2 rfl (by omega) (by omega) ⟨by omega, by omega⟩ (fun z => by omega) (q1.st (by omega)) q2 (fun j j0 j1 => by rw [rh_set_a (by omega)]; exact gp.out j j0 j1) hW1 i73 ⟨by omega, by omega⟩ (by rw [rh_set_s, i38]) ⟨by omega, by omega⟩
        rwa [Int.add_zero] at h0
  refine key _ 0 v 0 Mh Mm rfl (by omega) (by omega) frx.rf frx.rf frx.rf frx.rf ?_ ⟨by omega, by omega⟩ (fun j j0 j1 => by omega)
  rw [ev2]
  have := hpb _ z2 z3
  rw [if_neg (by omega)]
end Words
