/-! ===== LAYER 2: word, pieceOf, place ===== -/
section WordOp
variable {wh wm : rhW}
theorem LyL.m0 {Mh Mm Mm' : rhM} {x p : Int} (L : LyL Mh Mm x p) (h : ∀ c : Int, 23 ≤ c → c ≤ 46 → Mm' c = Mm c) : LyL Mh Mm' x p := by
  unfold LyL LnR at L ⊢
  rw [h 25 (by omega) (by omega), h 33 (by omega) (by omega), h 34 (by omega) (by omega), h 35 (by omega) (by omega), h 36 (by omega) (by omega), h 37 (by omega) (by omega), h 38 (by omega) (by omega)]
  exact L
theorem LyW.m0 {Mh Mm Mm' : rhM} {x p : Int} (L : LyW Mh Mm x p) (h4 : Mm' 4 = Mm 4) (h5 : Mm' 5 = Mm 5) (h : ∀ c : Int, 23 ≤ c → c ≤ 46 → Mm' c = Mm c) : LyW Mh Mm' x p := by
  unfold LyW WdR WdB Tg4 at L ⊢
  rw [h4, h5, h 25 (by omega) (by omega), h 26 (by omega) (by omega), h 34 (by omega) (by omega), h 35 (by omega) (by omega), h 39 (by omega) (by omega), h 40 (by omega) (by omega), h 41 (by omega) (by omega), h 42 (by omega) (by omega), h 43 (by omega) (by omega), h 44 (by omega) (by omega), h 45 (by omega) (by omega), h 46 (by omega) (by omega)]
  exact L
theorem c_laidWord (hh : rh_hs wh) (hm : rh_ms wm) {Mh Mm : rhM} (R : Rpg Mh Mm) (Y : Rly Mh Mm) (x1 x2 : Int) : rC2 wh YX1_laidWord 4 [(2, 0), (0, x1), (0, x2)] Mh wm YX32_wordOrNot 4 [(2, 0), (0, x1), (0, x2)] Mm (fun r M' r2 M2' => r = r2 ∧ M' = Mh ∧ M2' = rh_set Mm 0 0 0 ∧ (r = 0 ∨ r = -101 ∨ r = -103) ∧ (r = 0 → (0 ≤ x1 ∧ x1 < 8) ∧ 0 < Mm 4 x1 ∧ Mm 23 x1 ≠ 0 ∧ Mh (251 + 39 * x1) 4 ≠ 0 ∧ LyL Mh Mm (251 + 39 * x1) x1 ∧ LyW Mh Mm (251 + 39 * x1) x1 ∧ 0 ≤ x2 ∧ x2 < Mm 26 x1)) := by
  refine rC2.of (by decide) (LE0 rfl) (by decide) (LE0 rfl) ?_
  obtain ⟨e, cs⟩ := lay_v R Y x1
  have e26 : rh_set Mm 0 0 0 26 x1 = Mm 26 x1 := rh_set_a (by decide)
  refine rh2.l (rX1_laidWord_0 hh _ _ _ ?_)
  refine ⟨(by omega), (by omega), fun v ev => ?_⟩
  rw [e] at ev
  by_cases hz : v = 0
  · rcases cs with ⟨c, hv⟩ | ⟨c, hv, h2⟩ | ⟨c, hv, h2, h4, -, LL, LW⟩
    · omega
    · omega
    · have W := LW
      obtain ⟨tot, -, W, -⟩ := W
      have W1 := W.1
      have W2 := W.2.1
      clear W
      refine ⟨fun z => absurd hz z, fun _ => ⟨⟨by omega, by omega⟩, ⟨by omega, by omega⟩, ?_⟩⟩
      refine rh1.of (rX32_wordOrNot_0 hm _ _ _ ?_)
      rw [e26, W1]
      refine ⟨(by omega), (by omega), fun w ew => ⟨fun z => by omega, fun _ => ⟨⟨by omega, by omega⟩, ⟨by omega, by omega⟩, rfl, rfl, rfl, ?_, fun z => ?_⟩⟩⟩
      · rw [rh_ifd]; split <;> omega
      · have : 0 ≤ x2 ∧ x2 ≤ Mm 26 x1 - 1 := by
          by_cases q : 0 ≤ x2 ∧ x2 ≤ Mm 26 x1 - 1
          · exact q
          · rw [rh_if_f q] at z; omega
        exact ⟨⟨by omega, by omega⟩, hv.2, h2, h4, LL, LW, this.1, (by omega)⟩
  · refine ⟨fun _ => ?_, fun z => absurd z (fun y => y hz)⟩
    refine rh1.of (rX32_wordOrNot_0 hm _ _ _ ?_)
    refine ⟨(by omega), (by omega), fun w ew => ?_⟩
    rw [← ev] at ew
    have v3 : v = -101 ∨ v = -103 := by
      rcases cs with ⟨c, hv⟩ | ⟨c, hv, h2⟩ | ⟨c, hv, h2, h4, B, -⟩
      · omega
      · omega
      · omega
    exact ⟨fun _ => ⟨ew.symm, rfl, rfl, (by omega), fun z => absurd z hz⟩, fun z => by omega⟩
/-- what an operation leaves that brings a word to hand -/
def Pwd (Mh Mm M' M2' : rhM) : Prop := frx (fun c j => Fpr c j ∨ c = 25 ∨ c = 31 ∨ c = 32) Mh M' ∧ frx (fun c j => (c = 0 ∧ (j = 0 ∨ (84 ≤ j ∧ j ≤ 87))) ∨ Gpr c j ∨ c = 62) Mm M2'
theorem Pwd.mk0 {Mh Mm : rhM} : Pwd Mh Mm Mh (rh_set Mm 0 0 0) := ⟨frx.rf, frx.rf.st (.inl ⟨rfl, .inl rfl⟩)⟩
theorem Pwd.mk1 {Mh Mm M1 : rhM} (f : frx Fpr Mh M1) : Pwd Mh Mm M1 (rh_set Mm 0 0 0) := ⟨f.w (fun _ _ h => .inl h), frx.rf.st (.inl ⟨rfl, .inl rfl⟩)⟩
theorem Pwd.mk2 {Mh Mm M1 M2 : rhM} (f : frx Fpr Mh M1) (g : frx Gpr (rh_set Mm 0 0 0) M2) : Pwd Mh Mm M1 M2 := ⟨f.w (fun _ _ h => .inl h), fun c j h => by
  rw [g c j (fun z => h (.inr (.inl z))), rh_sets]
  split
  · rename_i e
    split
    · rename_i e'
      exact absurd (.inl ⟨e, .inl e'⟩) h
    · rfl
  · rfl⟩
theorem c_prep0 (hh : rh_hs wh) (hm : rh_ms wm) {Mh Mm : rhM} (R : Rpg Mh Mm) (S : Rsr Mh) {x1 x2 : Int} (hp : 0 ≤ x1 ∧ x1 < 8) (hW : 0 < Mm 4 x1) (h4 : Mh (251 + 39 * x1) 4 ≠ 0) (LL : LyL Mh Mm (251 + 39 * x1) x1) (LW : LyW Mh Mm (251 + 39 * x1) x1) (hw : 0 ≤ x2 ∧ x2 < Mm 26 x1) :
    rC2 wh YX16_prepare 2 [(2, 25), (2, 251 + 39 * x1), (0, x2)] Mh wm YX32_findPlaces 4 [(2, 0), (0, x1), (0, x2)] (rh_set Mm 0 0 0) (fun r M1 r2 M2 => frx Fpr Mh M1 ∧ frx Gpr (rh_set Mm 0 0 0) M2 ∧ Prp M1 M2 (251 + 39 * x1) x2 (Mm 4 x1) (Mm 5 x1)) := by
  have e4 : rh_set Mm 0 0 0 4 = Mm 4 := rh_set_n (by decide)
  have e5 : rh_set Mm 0 0 0 5 = Mm 5 := rh_set_n (by decide)
  have en : ∀ c : Int, 23 ≤ c → c ≤ 46 → rh_set Mm 0 0 0 c = Mm c := fun c a b => rh_set_n (by omega)
  have := c_prepare hh hm hp (w := x2) (Mh := Mh) (Mm := rh_set Mm 0 0 0) ((R x1 hp.1 hp.2).1.fx rfl rfl rfl (rh_set_n (by decide)) e4 e5) (by rw [e4]; exact hW) (S x1 hp.1 hp.2 h4) (LL.m0 en) (LW.m0 e4 e5 en) (by rw [rh_set_a (by decide)]; exact hw)
  rw [e4, e5] at this
  exact this
theorem op_pieceOf (hh : rh_hs wh) (hm : rh_ms wm) {Mh Mm : rhM} (R : Rpg Mh Mm) (Y : Rly Mh Mm) (x1 x2 x3 : Int) : rC2 wh YX1_pieceOf 5 [(2, 0), (0, x1), (0, x2), (0, x3)] Mh wm YX32_pieceOf 5 [(2, 0), (0, x1), (0, x2), (0, x3)] Mm (fun r M' r2 M2' => r = r2 ∧ M' = Mh ∧ M2' = rh_set Mm 0 0 0) := by
  refine rC2.of (by decide) (LE0 rfl) (by decide) (LE0 rfl) ?_
  obtain ⟨r, Ma, r2, Na, E1, E2, e1, e2, e3, hr, h0⟩ := c_laidWord hh hm R Y x1 x2
  rw [e2] at E1
  rw [e3] at E2
  subst e1
  clear e2 e3 Ma Na
  refine rh2.l (rX1_pieceOf_0 hh _ _ _ _ ?_)
  refine rh2.r (rX32_pieceOf_0 hm _ _ _ _ ?_)
  refine rh2.sl (vX1_pieceOf_3 hh E1 (LE0 rfl)) (rh2.sr (vX32_pieceOf_3 hm E2 (LE0 rfl)) ?_)
  refine rh2.l (rX1_pieceOf_6 hh _ _ _ _ _ ?_)
  refine ⟨fun z => ?_, fun z => ?_⟩
  · refine rh1.of (rX32_pieceOf_6 hm _ _ _ _ _ ?_)
    exact ⟨fun _ => ⟨rfl, rfl, rfl⟩, fun y => by omega⟩
  · have z0 : r = 0 := (by omega)
    obtain ⟨hp, hW, h23, h4, LL, ⟨tot, ht, ⟨w1, w2, w3, -⟩, -⟩, hw⟩ := h0 z0
    obtain ⟨-, b2, b3, b4, b5, -⟩ := w3 x2 hw.1 hw.2
    clear w3 LL
    rw [show 251 + 39 * x1 + 27 = 251 + 39 * x1 + 9 + 18 by omega, show 251 + 39 * x1 + 26 = 251 + 39 * x1 + 9 + 17 by omega, show 251 + 39 * x1 + 24 = 251 + 39 * x1 + 9 + 15 by omega, ← b3]
    refine ⟨⟨by omega, by omega⟩, ⟨by omega, by omega⟩, ⟨by omega, by omega⟩, ⟨by omega, by omega⟩, fun _ => ⟨by omega, by omega⟩, fun y => ⟨by omega, by omega⟩, ?_⟩
    refine rh1.of (rX32_pieceOf_6 hm _ _ _ _ _ ?_)
    have en : ∀ c j, 0 < c → rh_set Mm 0 0 0 c j = Mm c j := fun c j h => rh_set_a (by omega)
    rw [en 44 _ (by decide), en 45 _ (by decide), en 46 _ (by decide)]
    refine ⟨fun y => by omega, fun _ => ⟨⟨by omega, by omega⟩, ⟨by omega, by omega⟩, ⟨by omega, by omega⟩, fun _ => ⟨by omega, by omega⟩, fun y => ⟨by omega, by omega⟩, ?_, rfl, rfl⟩⟩
    by_cases q : 0 ≤ x3 ∧ x3 ≤ Mm 44 (80 * x1 + x2) - 1
    · rw [rh_if_t q, rh_if_t q, b5 x3 q.1 (by omega)]
    · rw [rh_if_f q, rh_if_f q]
theorem op_place (hh : rh_hs wh) (hm : rh_ms wm) {Mh Mm : rhM} (R : Rpg Mh Mm) (S : Rsr Mh) (Y : Rly Mh Mm) (x1 x2 x3 : Int) : rC2 wh YX1_place 5 [(2, 0), (0, x1), (0, x2), (0, x3)] Mh wm YX32_place 5 [(2, 0), (0, x1), (0, x2), (0, x3)] Mm (fun r M' r2 M2' => r = r2 ∧ Pwd Mh Mm M' M2') := by
  refine rC2.of (by decide) (LE0 rfl) (by decide) (LE0 rfl) ?_
  obtain ⟨r, Ma, r2, Na, E1, E2, e1, e2, e3, hr, h0⟩ := c_laidWord hh hm R Y x1 x2
  rw [e2] at E1
  rw [e3] at E2
  subst e1
  clear e2 e3 Ma Na
  refine rh2.l (rX1_place_0 hh _ _ _ _ ?_)
  refine rh2.r (rX32_place_0 hm _ _ _ _ ?_)
  refine rh2.sl (vX1_place_3 hh E1 (LE0 rfl)) (rh2.sr (vX32_place_3 hm E2 (LE0 rfl)) ?_)
  refine rh2.l (rX1_place_6 hh _ _ _ _ _ ?_)
  refine ⟨fun z => ?_, fun z => ⟨?_, ?_⟩⟩
  · refine rh1.of (rX32_place_6 hm _ _ _ _ _ ?_)
    exact ⟨fun _ => ⟨rfl, Pwd.mk0⟩, fun y => by omega⟩
  · have := (h0 (by omega)).1; exact this
  · have z0 : r = 0 := (by omega)
    obtain ⟨hp, hW, h23, h4, LL, LW, hw⟩ := h0 z0
    obtain ⟨r1, M1, r2, M2, K1, K2, f1, f2, P⟩ := c_prep0 hh hm R S hp hW h4 LL LW hw
    refine rh2.r (rX32_place_6 hm _ _ _ _ _ ?_)
    refine ⟨fun y => by omega, fun _ => ?_⟩
    refine rh2.sl (vX1_place_27 hh K1 (LE0 rfl)) (rh2.sr (vX32_place_19 hm K2 (LE0 rfl)) ?_)
    obtain ⟨-, -, -, -, -, -, -, -, p81, p7, PL⟩ := P
    refine rh2.l (rX1_place_30 hh _ _ ?_)
    rw [p7]
    have hd : ((if 16 < M2 0 81 then (-1 : Int) else M2 0 81 - 1) ≠ -1 ∧ (0 ≤ x3 ∧ x3 ≤ (if 16 < M2 0 81 then (-1 : Int) else M2 0 81 - 1))) ↔ (M2 0 81 ≤ 16 ∧ (0 ≤ x3 ∧ x3 ≤ M2 0 81 - 1)) := by
      split <;> omega
    rw [propext hd]
    refine ⟨fun y => ⟨by omega, by omega⟩, ?_⟩
    refine rh1.of (rX32_place_22 hm _ _ ?_)
    refine ⟨fun _ => ⟨by omega, by omega⟩, fun y => ⟨by omega, by omega⟩, ?_, Pwd.mk2 f1 f2⟩
    by_cases q : M2 0 81 ≤ 16 ∧ (0 ≤ x3 ∧ x3 ≤ M2 0 81 - 1)
    · rw [rh_if_t q, rh_if_t q, ((PL x3 q.2.1 (by omega)).1 (by omega)).1]
    · rw [rh_if_f q, rh_if_f q]
theorem op_word (hh : rh_hs wh) (hm : rh_ms wm) {Mh Mm : rhM} (R : Rpg Mh Mm) (S : Rsr Mh) (Y : Rly Mh Mm) (x1 x2 x3 : Int) : rC2 wh YX1_word 5 [(2, 0), (0, x1), (0, x2), (0, x3)] Mh wm YX32_word 5 [(2, 0), (0, x1), (0, x2), (0, x3)] Mm (fun r M' r2 M2' => r = r2 ∧ Pwd Mh Mm M' M2') := by
  refine rC2.of (by decide) (LE0 rfl) (by decide) (LE0 rfl) ?_
  obtain ⟨r, Ma, r2, Na, E1, E2, e1, e2, e3, hr, h0⟩ := c_laidWord hh hm R Y x1 x2
  rw [e2] at E1
  rw [e3] at E2
  subst e1
  clear e2 e3 Ma Na
  refine rh2.l (rX1_word_0 hh _ _ _ _ ?_)
  refine rh2.r (rX32_word_0 hm _ _ _ _ ?_)
  refine rh2.sl (vX1_word_3 hh E1 (LE0 rfl)) (rh2.sr (vX32_word_3 hm E2 (LE0 rfl)) ?_)
  refine rh2.l (rX1_word_6 hh _ _ _ _ _ ?_)
  refine ⟨fun z => ?_, fun z => ⟨?_, ?_, ?_⟩⟩
  · refine rh1.of (rX32_word_6 hm _ _ _ _ _ ?_)
    exact ⟨fun _ => ⟨rfl, Pwd.mk0⟩, fun y => by omega⟩
  · have := (h0 (by omega)).1; exact this
  · have := (h0 (by omega)).1; exact this
  · have z0 : r = 0 := (by omega)
    obtain ⟨hp, hW, h23, h4, LL, LW, hw⟩ := h0 z0
    obtain ⟨r1, M1, r2, M2, K1, K2, f1, f2, P⟩ := c_prep0 hh hm R S hp hW h4 LL LW hw
    refine rh2.sl (vX1_word_38 hh K1 (LE0 rfl)) ?_
    have hy : rh_bl wh 1 (251 + 39 * x1 + 9) 0 := by
      have := hs_ly hh hp.1 hp.2
      rwa [show 260 + 39 * x1 = 251 + 39 * x1 + 9 by omega] at this
    obtain ⟨tot, ht, ⟨w1, w2, w3, -⟩, -⟩ := LW
    obtain ⟨⟨l, l0, l1, WB⟩, b2, b3, b4, b5, -⟩ := w3 x2 hw.1 hw.2
    obtain ⟨c1, c2, ⟨c3, c4, c5, c6⟩, c7, c8, -⟩ := WB
    have hW128 := (R x1 hp.1 hp.2).1.2.2.2.1
    have hH96 := (R x1 hp.1 hp.2).1.2.2.2.2.2.1
    clear w3 LL
    have fM : ∀ c j, 33 ≤ c → M1 c j = Mh c j := fun c j h => f1 c j (fun q => by unfold Fpr at q; omega)
    have en : ∀ c j, 0 < c → rh_set Mm 0 0 0 c j = Mm c j := fun c j h => rh_set_a (by omega)
    have hr : 0 ≤ x2 ∧ x2 < 80 := ⟨by omega, by omega⟩
    have hq : 0 ≤ 80 * x1 + x2 ∧ 80 * x1 + x2 < 640 := ⟨by omega, by omega⟩
    obtain ⟨-, -, -, -, -, -, p8, p78, p81, p7, PL⟩ := P
    have M0 : ∀ (P : Int → rhM → Prop), (∀ r M9, Pwd Mh Mm M1 M9 → (x3 = 0 → r = l) → (x3 = 1 → r = Mm 40 (80 * x1 + x2)) → (x3 = 2 → r = Mm 41 (80 * x1 + x2)) → (x3 = 3 → r = Mm 42 (80 * x1 + x2) - Mm 40 (80 * x1 + x2)) → (x3 = 4 → r = Mm 43 (80 * x1 + x2) - Mm 41 (80 * x1 + x2)) → (x3 = 5 → r = Mm 44 (80 * x1 + x2)) → (x3 = 6 → r = rh_if (16 < M2 0 81) ((-1) : Int) (M2 0 81)) → (x3 = 7 → r = M2 0 78) → (¬ (0 ≤ x3 ∧ x3 ≤ 7) → r = -102) → P r M9) → rh1 wm YX32_word 5 6 [(0, 2, 0), (1, 0, x1), (2, 0, x2), (3, 0, x3)] [(0, 0)] (rh_set Mm 0 0 0) P := by
      intro P HP
      refine rh1.of (rX32_word_6 hm _ _ _ _ _ ?_)
      rw [en 39 _ (by decide), en 40 _ (by decide), en 41 _ (by decide), en 42 _ (by decide), en 43 _ (by decide), en 44 _ (by decide), c2]
      have pm := Pwd.mk1 (Mm := Mm) f1
      refine ⟨fun z => by omega, fun _ => ⟨⟨by omega, by omega⟩, fun z => ⟨hq, HP _ _ pm ?_ ?_ ?_ ?_ ?_ ?_ ?_ ?_ ?_⟩, fun z0 => ⟨fun z => ⟨hq, HP _ _ pm ?_ ?_ ?_ ?_ ?_ ?_ ?_ ?_ ?_⟩, fun z1 => ⟨fun z => ⟨hq, HP _ _ pm ?_ ?_ ?_ ?_ ?_ ?_ ?_ ?_ ?_⟩, fun z2 => ⟨fun z => ⟨hq, hq, ⟨by omega, by omega⟩, HP _ _ pm ?_ ?_ ?_ ?_ ?_ ?_ ?_ ?_ ?_⟩, fun z3 => ⟨fun z => ⟨hq, hq, ⟨by omega, by omega⟩, HP _ _ pm ?_ ?_ ?_ ?_ ?_ ?_ ?_ ?_ ?_⟩, fun z4 => ⟨fun z => ⟨hq, HP _ _ pm ?_ ?_ ?_ ?_ ?_ ?_ ?_ ?_ ?_⟩, fun z5 => ⟨fun z => ?s6, fun z6 => ⟨fun z => ?s7, fun z7 => HP _ _ pm ?_ ?_ ?_ ?_ ?_ ?_ ?_ ?_ ?_⟩⟩⟩⟩⟩⟩⟩⟩⟩
      case s6 =>
        refine rh1.s (vX32_word_139 hm K2 (LE0 rfl)) ?_
        refine rh1.of (rX32_word_142 hm _ ?_)
        refine HP _ _ (Pwd.mk2 f1 f2) ?_ ?_ ?_ ?_ ?_ ?_ ?_ ?_ ?_
        all_goals first
          | exact fun _ => rfl
          | exact fun y => absurd y (by omega)
      case s7 =>
        refine rh1.s (vX32_word_163 hm K2 (LE0 rfl)) ?_
        refine rh1.of (rX32_word_166 hm _ ?_)
        refine HP _ _ (Pwd.mk2 f1 f2) ?_ ?_ ?_ ?_ ?_ ?_ ?_ ?_ ?_
        all_goals first
          | exact fun _ => rfl
          | exact fun y => absurd y (by omega)
      all_goals first
        | exact fun _ => rfl
        | exact fun y => absurd y (by omega)
    rw [z0]
    refine rh2.l (rX1_word_41 hh _ _ _ _ hy ?_)
    rw [fM _ _ (by omega), fM _ _ (by omega), fM _ _ (by omega), fM _ _ (by omega), fM _ _ (by omega), fM _ _ (by omega), fM _ _ (by omega), c1, c3, c4, c5, c6, ← b3, p7, p8]
    refine ⟨fun z => ⟨hr, ?_⟩, fun z0 => ⟨fun z => ⟨hr, ?_⟩, fun z1 => ⟨fun z => ⟨hr, ?_⟩, fun z2 => ⟨fun z => ⟨hr, hr, ⟨by omega, by omega⟩, ?_⟩, fun z3 => ⟨fun z => ⟨hr, hr, ⟨by omega, by omega⟩, ?_⟩, fun z4 => ⟨fun z => ⟨hr, hr, ⟨by omega, by omega⟩, ?_⟩, fun z5 => ⟨fun z => ⟨?_, ?_⟩, fun z6 => ⟨fun z => ?_, fun z7 => ?_⟩⟩⟩⟩⟩⟩⟩⟩
    · exact M0 _ (fun r M9 pw h0 h1 h2 h3 h4 h5 h6 h7 h8 => ⟨(h0 z).symm, pw⟩)
    · exact M0 _ (fun r M9 pw h0 h1 h2 h3 h4 h5 h6 h7 h8 => ⟨(h1 z).symm, pw⟩)
    · exact M0 _ (fun r M9 pw h0 h1 h2 h3 h4 h5 h6 h7 h8 => ⟨(h2 z).symm, pw⟩)
    · exact M0 _ (fun r M9 pw h0 h1 h2 h3 h4 h5 h6 h7 h8 => ⟨(h3 z).symm, pw⟩)
    · exact M0 _ (fun r M9 pw h0 h1 h2 h3 h4 h5 h6 h7 h8 => ⟨(h4 z).symm, pw⟩)
    · exact M0 _ (fun r M9 pw h0 h1 h2 h3 h4 h5 h6 h7 h8 => ⟨(h5 z).symm, pw⟩)
    · rw [rh_ifd]; split <;> split <;> exact ⟨by omega, by omega⟩
    · refine M0 _ (fun r M9 pw h0 h1 h2 h3 h4 h5 h6 h7 h8 => ⟨?_, pw⟩)
      rw [h6 z, rh_ifd, rh_ifd]
      split <;> split <;> omega
    · exact M0 _ (fun r M9 pw h0 h1 h2 h3 h4 h5 h6 h7 h8 => ⟨(h7 z).symm, pw⟩)
    · exact M0 _ (fun r M9 pw h0 h1 h2 h3 h4 h5 h6 h7 h8 => ⟨(h8 (by omega)).symm, pw⟩)
end WordOp
