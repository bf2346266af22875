/-! ===== LAYER 2: op tree ===== -/
section TreeOp
variable {wh wm : rhW}
def hn5 (M : rhM) (p a b : Int) : rhM := rh_set (rh_set (rh_set (rh_set (rh_set M 50 p (-1)) 51 p 0) 52 p (-1)) 53 p a) 54 p b
def mn5 (M : rhM) (p a b : Int) : rhM := rh_set (rh_set (rh_set (rh_set (rh_set M 79 p a) 80 p b) 76 p (-1)) 77 p 0) 78 p (-1)
def hn3 (M : rhM) (p e w s : Int) : rhM := rh_set (rh_set (rh_set M 50 p e) 51 p w) 52 p s
def mn3 (M : rhM) (p e w s : Int) : rhM := rh_set (rh_set (rh_set M 76 p e) 77 p w) 78 p s
theorem hn5_f {M : rhM} {p a b : Int} : frx (fun c j => (50 ≤ c ∧ c ≤ 54) ∧ j = p) M (hn5 M p a b) := ((((frx.rf.st ⟨⟨by omega, by omega⟩, rfl⟩).st ⟨⟨by omega, by omega⟩, rfl⟩).st ⟨⟨by omega, by omega⟩, rfl⟩).st ⟨⟨by omega, by omega⟩, rfl⟩).st ⟨⟨by omega, by omega⟩, rfl⟩
theorem mn5_f {M : rhM} {p a b : Int} : frx (fun c j => (76 ≤ c ∧ c ≤ 80) ∧ j = p) M (mn5 M p a b) := ((((frx.rf.st ⟨⟨by omega, by omega⟩, rfl⟩).st ⟨⟨by omega, by omega⟩, rfl⟩).st ⟨⟨by omega, by omega⟩, rfl⟩).st ⟨⟨by omega, by omega⟩, rfl⟩).st ⟨⟨by omega, by omega⟩, rfl⟩
theorem hn3_f {M : rhM} {p e w s : Int} : frx (fun c j => (50 ≤ c ∧ c ≤ 52) ∧ j = p) M (hn3 M p e w s) := ((frx.rf.st ⟨⟨by omega, by omega⟩, rfl⟩).st ⟨⟨by omega, by omega⟩, rfl⟩).st ⟨⟨by omega, by omega⟩, rfl⟩
theorem mn3_f {M : rhM} {p e w s : Int} : frx (fun c j => (76 ≤ c ∧ c ≤ 78) ∧ j = p) M (mn3 M p e w s) := ((frx.rf.st ⟨⟨by omega, by omega⟩, rfl⟩).st ⟨⟨by omega, by omega⟩, rfl⟩).st ⟨⟨by omega, by omega⟩, rfl⟩
theorem hn5_v (M : rhM) (p a b : Int) : hn5 M p a b 50 p = -1 ∧ hn5 M p a b 51 p = 0 ∧ hn5 M p a b 52 p = -1 ∧ hn5 M p a b 53 p = a ∧ hn5 M p a b 54 p = b := by
  unfold hn5
  refine ⟨?_, ?_, ?_, ?_, ?_⟩ <;> simp (disch := decide) only [rh_set_a, rh_set_s]
theorem mn5_v (M : rhM) (p a b : Int) : mn5 M p a b 76 p = -1 ∧ mn5 M p a b 77 p = 0 ∧ mn5 M p a b 78 p = -1 ∧ mn5 M p a b 79 p = a ∧ mn5 M p a b 80 p = b := by
  unfold mn5
  refine ⟨?_, ?_, ?_, ?_, ?_⟩ <;> simp (disch := decide) only [rh_set_a, rh_set_s]
theorem hn3_v (M : rhM) (p e w s : Int) : hn3 M p e w s 50 p = e ∧ hn3 M p e w s 51 p = w ∧ hn3 M p e w s 52 p = s := by
  unfold hn3
  refine ⟨?_, ?_, ?_⟩ <;> simp (disch := decide) only [rh_set_a, rh_set_s]
theorem mn3_v (M : rhM) (p e w s : Int) : mn3 M p e w s 76 p = e ∧ mn3 M p e w s 77 p = w ∧ mn3 M p e w s 78 p = s := by
  unfold mn3
  refine ⟨?_, ?_, ?_⟩ <;> simp (disch := decide) only [rh_set_a, rh_set_s]
/-- node i of the face on both sides -/
def Nag (A B : rhM) (face i s : Int) : Prop := A 50 (300 * face + i) = B 76 (300 * face + i) ∧ A 51 (300 * face + i) = B 77 (300 * face + i) ∧ A 52 (300 * face + i) = B 78 (300 * face + i) ∧ A 53 (300 * face + i) = B 79 (300 * face + i) ∧ A 54 (300 * face + i) = B 80 (300 * face + i) ∧ (B 76 (300 * face + i) = -1 ∨ ((0 ≤ B 76 (300 * face + i) ∧ B 76 (300 * face + i) < 19) ∧ i < B 78 (300 * face + i) ∧ B 78 (300 * face + i) + 1 < s)) ∧ (0 ≤ B 79 (300 * face + i) ∧ B 79 (300 * face + i) < 128)
def Ftr1 (face n : Int) (c j : Int) : Prop := (c = 49 ∧ j = face) ∨ ((50 ≤ c ∧ c ≤ 54) ∧ j = 300 * face + n) ∨ (55 ≤ c ∧ c ≤ 57)
def Gtr1 (face n : Int) (c j : Int) : Prop := ((76 ≤ c ∧ c ≤ 80) ∧ j = 300 * face + n) ∨ (81 ≤ c ∧ c ≤ 83) ∨ (c = 0 ∧ 112 ≤ j ∧ j ≤ 114)
theorem Nag.fx {A B A' B' : rhM} {face i s s' n : Int} (h : Nag A B face i s) (hs : s ≤ s') (hn : i ≠ n) (f : frx (Ftr1 face n) A A') (g : frx (Gtr1 face n) B B') : Nag A' B' face i s' := by
  unfold Nag at h ⊢
  rw [f 50 _ (by unfold Ftr1; omega), f 51 _ (by unfold Ftr1; omega), f 52 _ (by unfold Ftr1; omega), f 53 _ (by unfold Ftr1; omega), f 54 _ (by unfold Ftr1; omega), g 76 _ (by unfold Gtr1; omega), g 77 _ (by unfold Gtr1; omega), g 78 _ (by unfold Gtr1; omega), g 79 _ (by unfold Gtr1; omega), g 80 _ (by unfold Gtr1; omega)]
  obtain ⟨h1, h2, h3, h4, h5, h6, h7⟩ := h
  refine ⟨h1, h2, h3, h4, h5, ?_, h7⟩
  rcases h6 with h | h
  · exact .inl h
  · exact .inr ⟨h.1, h.2.1, (by omega)⟩
theorem t_step (hh : rh_hs wh) (hm : rh_ms wm) {N : Nat} {nd lt G : Int → Int} {face n s : Int} (hf : 0 ≤ face ∧ face < 4) (hs : s + 1 ≤ 2 * ctp (fs1 nd) N) (hn : 0 ≤ n ∧ n < s) (hnd : ∀ f : Int, 0 ≤ f → f < N → nd f < s) (A B : rhM) (Th : Trd N nd lt G (A 41 0) (A 55) (A 43) (A 47)) (Tm : Trd N nd lt G (B 0 89) (B 81) (B 64) (B 68)) (h49 : A 49 face = s) :
    ∃ A' B' s' nd', eC wh YX17_look 2 [(2, 41), (0, face), (0, n)] A 0 A' ∧ eS wm YX32_tree 2 83 [(0, 2, 0), (1, 0, face), (2, 0, 300 * face), (3, 0, s), (4, 0, n)] [] B 83 [(0, 2, 0), (1, 0, face), (2, 0, 300 * face), (3, 0, s'), (4, 0, n + 1)] [] B' ∧ Trd N nd' lt G (A' 41 0) (A' 55) (A' 43) (A' 47) ∧ Trd N nd' lt G (B' 0 89) (B' 81) (B' 64) (B' 68) ∧ A' 49 face = s' ∧ s ≤ s' ∧ s' + 1 ≤ 2 * ctp (fs1 nd') N ∧ (∀ f : Int, 0 ≤ f → f < N → nd' f < s') ∧ frx (Ftr1 face n) A A' ∧ frx (Gtr1 face n) B B' ∧ Nag A' B' face n s' := by
  have N150 := Th.2.1
  have cb := ctp_b (fs1 nd) N
  have s3 : s ≤ 299 := (by omega)
  obtain ⟨A1, EA1, fA1, vA1⟩ := h_look hh (face := face) (n := n) A Th
  obtain ⟨B1, EB1, fB1, vB1⟩ := m_look hm (face := face) (a := 300 * face) (s := s) (n := n) hn.2 B Tm
  have hl : ∀ f : Int, 0 ≤ f → f < N → 33 ≤ lt f ∧ lt f ≤ 126 := fun f f0 f1 => (Th.2.2 f f0 f1).2.2.1
  have kd : hrc nd lt n N (amx (hrc nd lt n N) 128) < mny nd n N ↔ 1 < ctp (fun c => 0 < hrc nd lt n N c) 128 := tr_kinds hl
  have ab := amx_b (h := hrc nd lt n N) 128
  obtain ⟨mo, hmo⟩ : ∃ mo, mo = amx (hrc nd lt n N) 128 := ⟨_, rfl⟩
  rw [← hmo] at EA1 EB1 kd ab
  have hp : 0 ≤ 300 * face + n ∧ 300 * face + n < 1200 := ⟨by omega, by omega⟩
  have hmb : 0 ≤ mo ∧ mo < 128 := ⟨by omega, by omega⟩
  have hpI : rI (300 * face + n) := ⟨by omega, by omega⟩
  have gA2 : frx (fun c j => ((50 ≤ c ∧ c ≤ 54) ∧ j = 300 * face + n) ∨ c = 56) A (hn5 A1 (300 * face + n) mo (mny nd n N)) := (fA1.w (fun c j h => .inr h)).tr (hn5_f.w (fun c j h => .inl h))
  have gB2 : frx (fun c j => ((76 ≤ c ∧ c ≤ 80) ∧ j = 300 * face + n) ∨ c = 82) B (mn5 B1 (300 * face + n) mo (mny nd n N)) := (fB1.w (fun c j h => .inr h)).tr (mn5_f.w (fun c j h => .inl h))
  have vA2 := hn5_v A1 (300 * face + n) mo (mny nd n N)
  have vB2 := mn5_v B1 (300 * face + n) mo (mny nd n N)
  have hX : ∀ c, 0 ≤ c → c < 128 → hn5 A1 (300 * face + n) mo (mny nd n N) 56 c = hrc nd lt n N c := fun c c0 c1 => by
    rw [hn5_f 56 c (by omega)]; exact vA1 c c0 c1
  have Th2 := Th.fx (gA2 41 0 (by omega)) (gA2.cell (a := 55) (fun j => (by omega))) (gA2.cell (a := 43) (fun j => (by omega))) (gA2.cell (a := 47) (fun j => (by omega)))
  have Tm2 := Tm.fx (gB2 0 89 (by omega)) (gB2.cell (a := 81) (fun j => (by omega))) (gB2.cell (a := 64) (fun j => (by omega))) (gB2.cell (a := 68) (fun j => (by omega)))
  have h49' : hn5 A1 (300 * face + n) mo (mny nd n N) 49 face = s := by rw [gA2 49 face (by omega)]; exact h49
  by_cases hk : 1 < ctp (fun c => 0 < hrc nd lt n N c) 128
  · have k1 := kd.mpr hk
    have my0 : 0 < mny nd n N := by
      have := ctp_b (fun f => nd f = n ∧ lt f = mo) N
      unfold hrc at k1
      omega
    have my1 := ctp_b (fun f => nd f = n) N
    have sb := sqs_b (h := hrc nd lt n N) 128 (fun c _ _ => by
      have := ctp_b (fun f => nd f = n ∧ lt f = c) N
      unfold hrc; omega)
    obtain ⟨r1, B3, K1, re, f3, v3⟩ := c_countLetters hm (n := n) (mn5 B1 (300 * face + n) mo (mny nd n N)) Tm2
    rw [re] at K1
    have g4 : frx (fun c j => c = 82 ∨ (c = 0 ∧ j = 112)) (mn5 B1 (300 * face + n) mo (mny nd n N)) (rh_set B3 0 112 (-1)) := (f3.w (fun c j h => .inl h)).st (.inr ⟨rfl, rfl⟩)
    have Tm4 := Tm2.fx (g4 0 89 (by omega)) (g4.cell (a := 81) (fun j => (by omega))) (g4.cell (a := 64) (fun j => (by omega))) (g4.cell (a := 68) (fun j => (by omega)))
    obtain ⟨t', b', e', w', A5, B5, EA5, EB5, fA5, fB5, e5, w5, I5⟩ := q_pair hh hm (face := face) (n := n) (my := mny nd n N) (hn5 A1 (300 * face + n) mo (mny nd n N)) (rh_set B3 0 112 (-1)) Th2 Tm4 hX (fun c c0 c1 => by rw [rh_set_a (by omega)]; exact v3 c c0 c1) rfl 19 0 (sqs (hrc nd lt n N) 128) (mny nd n N) (-1) 0 _ _ (by omega) (by omega) frx.rf frx.rf (rh_set_s _ _ _ _) (fun z => absurd rfl z) ⟨by omega, by omega⟩ ⟨my0, by unfold mny; omega⟩ (.inl rfl)
    have Kq : ∀ r, r = rh_if (B5 0 112 ≠ -1) 1 0 → eC wm YX32_findQuestion 1 [(2, 0), (0, n), (0, mny nd n N)] (mn5 B1 (300 * face + n) mo (mny nd n N)) r B5 := fun r hr => eC.of1 (rC1.of (by decide) (LE0 rfl) (by
      refine rh1.of (rX32_findQuestion_0 hm _ _ _ ?_)
      refine rh1.s (vX32_findQuestion_2 hm K1 (LE0 rfl)) ?_
      refine rh1.of (rX32_findQuestion_5 hm _ _ _ _ ?_)
      refine rh1.s EB5 ?_
      refine rh1.of (rX32_findQuestion_18 hm _ _ _ _ _ _ ?_)
      exact ⟨fun y => by omega, fun _ => ⟨hr.symm, rfl⟩⟩))
    have HL : ∀ A', eC wh YX17_part 1 [(2, 41), (0, face), (0, n), (1, sqs (hrc nd lt n N) 128), (0, mny nd n N)] (hn5 A1 (300 * face + n) mo (mny nd n N)) 0 A' → eC wh YX17_look 2 [(2, 41), (0, face), (0, n)] A 0 A' := fun A' Kp => eC.of1 (rC1.of (by decide) (LE0 rfl) (by
      refine rh1.s EA1 ?_
      refine rh1.of (rX17_look_83 hh _ _ _ _ _ _ _ ?_)
      refine ⟨fun y => by omega, fun _ => ⟨hpI, hp, hp, hp, hp, hp, ?_⟩⟩
      intro M3 e3
      have e4 : M3 = hn5 A1 (300 * face + n) mo (mny nd n N) := e3
      rw [e4, hX mo hmb.1 hmb.2]
      refine ⟨hmb, fun _ => ?_, fun y => absurd k1 y⟩
      refine rh1.s (vX17_look_214 hh Kp (LE0 rfl)) ?_
      refine rh1.of (rX17_look_217 hh _ ?_)
      exact ⟨rfl, rfl⟩))
    have ML : ∀ r s' B', r = rh_if (B5 0 112 ≠ -1) 1 0 → eS wm YX32_tree 2 274 [(0, 2, 0), (1, 0, face), (2, 0, 300 * face), (3, 0, s), (4, 0, n)] [(0, r)] B5 83 [(0, 2, 0), (1, 0, face), (2, 0, 300 * face), (3, 0, s'), (4, 0, n + 1)] [] B' → eS wm YX32_tree 2 83 [(0, 2, 0), (1, 0, face), (2, 0, 300 * face), (3, 0, s), (4, 0, n)] [] B 83 [(0, 2, 0), (1, 0, face), (2, 0, 300 * face), (3, 0, s'), (4, 0, n + 1)] [] B' := fun r s' B' hr E => eS.of (fun P HP => by
      refine rh1.s EB1 ?_
      refine rh1.of (rX32_tree_148 hm _ _ _ _ _ _ _ _ _ ?_)
      refine ⟨fun y => by omega, fun _ => ⟨hp, hp, hp, hp, hp, fun _ => ?_, fun y => absurd hk y⟩⟩
      refine rh1.s (vX32_tree_271 hm (Kq r hr) (LE0 rfl)) ?_
      exact rh1.s E HP)
    have gA5 : frx (Ftr1 face n) A A5 := (gA2.w (fun c j h => by unfold Ftr1; omega)).tr (fA5.w (fun c j h => by unfold Ftr1; omega))
    have gB5 : frx (Gtr1 face n) B B5 := ((gB2.w (fun c j h => by unfold Gtr1; omega)).tr (g4.w (fun c j h => by unfold Gtr1; omega))).tr (fB5.w (fun c j h => by unfold Gtr1; omega))
    have Th5 := Th2.fx (fA5 41 0 (by omega)) (fA5.cell (a := 55) (fun j => (by omega))) (fA5.cell (a := 43) (fun j => (by omega))) (fA5.cell (a := 47) (fun j => (by omega)))
    have Tm5 := Tm4.fx (fB5 0 89 (by omega)) (fB5.cell (a := 81) (fun j => (by omega))) (fB5.cell (a := 64) (fun j => (by omega))) (fB5.cell (a := 68) (fun j => (by omega)))
    have a49 : A5 49 face = s := by rw [fA5 49 face (by omega)]; exact h49'
    have va : ∀ c : Int, 50 ≤ c → c ≤ 54 → A5 c (300 * face + n) = hn5 A1 (300 * face + n) mo (mny nd n N) c (300 * face + n) := fun c c0 c1 => fA5 c _ (by omega)
    have vb : ∀ c : Int, 76 ≤ c → c ≤ 80 → B5 c (300 * face + n) = mn5 B1 (300 * face + n) mo (mny nd n N) c (300 * face + n) := fun c c0 c1 => by rw [fB5 c _ (by omega), g4 c _ (by omega)]
    by_cases he : e' = -1
    · refine ⟨A5, B5, s, nd, HL A5 (eC.of1 (rC1.of (by decide) (LE0 rfl) ?_)), ML 0 s B5 (by rw [e5, rh_if_f (fun z => z he)]) (eS.of (fun P HP => ?_)), Th5, Tm5, a49, Int.le_refl _, hs, hnd, gA5, gB5, ?_⟩
      · refine rh1.of (rX17_part_0 hh _ _ _ _ _ ?_)
        refine rh1.s EA5 ?_
        refine rh1.of (rX17_part_17 hh _ _ _ _ _ _ _ _ _ ?_)
        exact ⟨fun y => by omega, fun _ => ⟨fun _ => ⟨rfl, rfl⟩, fun y => absurd he y⟩⟩
      · refine rh1.of (rX32_tree_274 hm _ _ _ _ _ _ ?_)
        exact ⟨fun y => absurd rfl y, fun _ => ⟨⟨by omega, by omega⟩, HP⟩⟩
      · unfold Nag
        rw [va 50 (by omega) (by omega), va 51 (by omega) (by omega), va 52 (by omega) (by omega), va 53 (by omega) (by omega), va 54 (by omega) (by omega), vb 76 (by omega) (by omega), vb 77 (by omega) (by omega), vb 78 (by omega) (by omega), vb 79 (by omega) (by omega), vb 80 (by omega) (by omega), vA2.1, vA2.2.1, vA2.2.2.1, vA2.2.2.2.1, vA2.2.2.2.2, vB2.1, vB2.2.1, vB2.2.2.1, vB2.2.2.2.1, vB2.2.2.2.2]
        exact ⟨rfl, rfl, rfl, rfl, rfl, .inl rfl, hmb⟩
    · obtain ⟨he1, g, g0, g1, g2, g3, g4'⟩ := I5.resolve_left he
      have w6 := w5 he
      have F6 : frx (fun c j => (50 ≤ c ∧ c ≤ 52) ∧ j = 300 * face + n) A5 (hn3 A5 (300 * face + n) e' w' s) := hn3_f
      have G6 : frx (fun c j => (76 ≤ c ∧ c ≤ 78) ∧ j = 300 * face + n) B5 (mn3 B5 (300 * face + n) e' w' s) := mn3_f
      have Th6 := Th5.fx (F6 41 0 (by omega)) (F6.cell (a := 55) (fun j => (by omega))) (F6.cell (a := 43) (fun j => (by omega))) (F6.cell (a := 47) (fun j => (by omega)))
      have Tm6 := Tm5.fx (G6 0 89 (by omega)) (G6.cell (a := 81) (fun j => (by omega))) (G6.cell (a := 64) (fun j => (by omega))) (G6.cell (a := 68) (fun j => (by omega)))
      obtain ⟨A7, EA7, fA7, s7, n7⟩ := h_split hh (face := face) (n := n) (e := e') (w := w') (s := s) hf he1 ⟨by omega, by omega⟩ (hn3 A5 (300 * face + n) e' w' s) Th6 (by rw [hn3_f 49 face (by omega)]; exact a49)
      obtain ⟨B7, EB7, fB7, m7⟩ := m_split hm (face := face) (a := 300 * face) (n := n) (e := e') (w := w') (s := s) he1 ⟨by omega, by omega⟩ hn (mn3 B5 (300 * face + n) e' w' s) Tm6 (by rw [mn3_f 0 112 (by omega)]; exact e5) (by rw [mn3_f 0 113 (by omega)]; exact w6)
      have x0 : ∃ f : Int, 0 ≤ f ∧ f < N ∧ ndn nd G n e' w' s f = s := ⟨g, g0, g1, by unfold ndn; rw [if_pos g2, if_pos (Int.le_of_eq g3)]⟩
      have x1 : ∃ f : Int, 0 ≤ f ∧ f < N ∧ ndn nd G n e' w' s f = s + 1 := by
        obtain ⟨j, j0, j1, q1, q2⟩ := ctp_ex (P := fun f => nd f = n ∧ G (19 * f + e') ≤ w') (Q := fun f => nd f = n) g4'
        exact ⟨j, j0, j1, by unfold ndn; rw [if_pos q1, if_neg (fun z => q2 ⟨q1, z⟩)]⟩
      have fs := fs1_split (nd' := ndn nd G n e' w' s) hn.1 hn.2 hnd (fun f f0 f1 q => by
        unfold ndn
        rw [if_pos q]
        split
        · exact .inl rfl
        · exact .inr rfl) (fun f f0 f1 q => by unfold ndn; rw [if_neg q]) x0 x1
      refine ⟨A7, B7, s + 2, ndn nd G n e' w' s, HL A7 (eC.of1 (rC1.of (by decide) (LE0 rfl) ?_)), ML 1 (s + 2) B7 (by rw [e5, rh_if_t he]) (eS.of (fun P HP => ?_)), ?_, ?_, s7, (by omega), (by omega), ?_, ?_, ?_, ?_⟩
      · refine rh1.of (rX17_part_0 hh _ _ _ _ _ ?_)
        refine rh1.s EA5 ?_
        refine rh1.of (rX17_part_17 hh _ _ _ _ _ _ _ _ _ ?_)
        refine ⟨fun y => by omega, fun _ => ⟨fun y => absurd y he, fun _ => ⟨hpI, hp, hp, ?_⟩⟩⟩
        intro M3 e3
        have e6 : M3 49 face = s := by rw [e3, rh_set_a (by decide), rh_set_a (by decide)]; exact a49
        rw [e6]
        refine ⟨hf, hp, ?_⟩
        rw [e3]
        exact EA7 _ ⟨rfl, rfl⟩
      · refine rh1.of (rX32_tree_274 hm _ _ _ _ _ _ ?_)
        rw [e5]
        refine ⟨fun _ => ⟨hp, ?_⟩, fun y => absurd (show (1 : Int) ≠ 0 by decide) y⟩
        intro M3 e3
        have e6 : M3 0 113 = w' := by rw [e3, rh_set_a (by decide)]; exact w6
        rw [e6]
        refine ⟨hp, hp, ?_⟩
        rw [e3]
        exact rh1.s EB7 HP
      · refine ⟨(fA7 41 0 (by omega)).trans Th6.1, N150, fun f f0 f1 => ⟨n7 f f0 f1, ?_⟩⟩
        rw [fA7.cell (a := 43) (fun j => (by omega)), fA7.cell (a := 47) (fun j => (by omega))]
        exact (Th6.2.2 f f0 f1).2
      · refine ⟨(fB7 0 89 (by omega)).trans Tm6.1, N150, fun f f0 f1 => ⟨m7 f f0 f1, ?_⟩⟩
        rw [fB7.cell (a := 64) (fun j => (by omega)), fB7.cell (a := 68) (fun j => (by omega))]
        exact (Tm6.2.2 f f0 f1).2
      · intro f f0 f1
        have := hnd f f0 f1
        unfold ndn
        split
        · split <;> omega
        · omega
      · exact (gA5.tr (hn3_f.w (fun c j h => by unfold Ftr1; omega))).tr (fA7.w (fun c j h => by unfold Ftr1; omega))
      · exact (gB5.tr (mn3_f.w (fun c j h => by unfold Gtr1; omega))).tr (fB7.w (fun c j h => by unfold Gtr1; omega))
      · have ua := hn3_v A5 (300 * face + n) e' w' s
        have ub := mn3_v B5 (300 * face + n) e' w' s
        unfold Nag
        rw [fA7 50 _ (by omega), fA7 51 _ (by omega), fA7 52 _ (by omega), fA7 53 _ (by omega), fA7 54 _ (by omega), fB7 76 _ (by omega), fB7 77 _ (by omega), fB7 78 _ (by omega), fB7 79 _ (by omega), fB7 80 _ (by omega), ua.1, ua.2.1, ua.2.2, ub.1, ub.2.1, ub.2.2, hn3_f 53 _ (by omega), hn3_f 54 _ (by omega), mn3_f 79 _ (by omega), mn3_f 80 _ (by omega), va 53 (by omega) (by omega), va 54 (by omega) (by omega), vb 79 (by omega) (by omega), vb 80 (by omega) (by omega), vA2.2.2.2.1, vA2.2.2.2.2, vB2.2.2.2.1, vB2.2.2.2.2]
        exact ⟨rfl, rfl, rfl, rfl, rfl, .inr ⟨he1, hn.2, (by omega)⟩, hmb⟩
  · refine ⟨hn5 A1 (300 * face + n) mo (mny nd n N), mn5 B1 (300 * face + n) mo (mny nd n N), s, nd, eC.of1 (rC1.of (by decide) (LE0 rfl) ?_), eS.of (fun P HP => ?_), Th2, Tm2, h49', Int.le_refl _, hs, hnd, gA2.w (fun c j h => by unfold Ftr1; omega), gB2.w (fun c j h => by unfold Gtr1; omega), ?_⟩
    · refine rh1.s EA1 ?_
      refine rh1.of (rX17_look_83 hh _ _ _ _ _ _ _ ?_)
      refine ⟨fun y => by omega, fun _ => ⟨hpI, hp, hp, hp, hp, hp, ?_⟩⟩
      intro M3 e3
      have e4 : M3 = hn5 A1 (300 * face + n) mo (mny nd n N) := e3
      rw [e4, hX mo hmb.1 hmb.2]
      exact ⟨hmb, fun y => absurd (kd.mp y) hk, fun _ => ⟨rfl, rfl⟩⟩
    · refine rh1.s EB1 ?_
      refine rh1.of (rX32_tree_148 hm _ _ _ _ _ _ _ _ _ ?_)
      exact ⟨fun y => by omega, fun _ => ⟨hp, hp, hp, hp, hp, fun y => absurd y hk, fun _ => ⟨⟨by omega, by omega⟩, HP⟩⟩⟩
    · unfold Nag
      rw [vA2.1, vA2.2.1, vA2.2.2.1, vA2.2.2.2.1, vA2.2.2.2.2, vB2.1, vB2.2.1, vB2.2.2.1, vB2.2.2.2.1, vB2.2.2.2.2]
      exact ⟨rfl, rfl, rfl, rfl, rfl, .inl rfl, hmb⟩
def Ftr (face : Int) (c j : Int) : Prop := (c = 49 ∧ j = face) ∨ ((50 ≤ c ∧ c ≤ 54) ∧ 300 * face ≤ j ∧ j < 300 * face + 300) ∨ (55 ≤ c ∧ c ≤ 57)
def Gtr (face : Int) (c j : Int) : Prop := ((76 ≤ c ∧ c ≤ 80) ∧ 300 * face ≤ j ∧ j < 300 * face + 300) ∨ (81 ≤ c ∧ c ≤ 83) ∨ (c = 0 ∧ 112 ≤ j ∧ j ≤ 114)
theorem t_loop (hh : rh_hs wh) (hm : rh_ms wm) {N : Nat} {lt G : Int → Int} {face : Int} (hf : 0 ≤ face ∧ face < 4) : ∀ (m : Nat) (n s : Int) (nd : Int → Int) (A B : rhM), n + m = 300 → (0 ≤ n ∧ n ≤ s) → Trd N nd lt G (A 41 0) (A 55) (A 43) (A 47) → Trd N nd lt G (B 0 89) (B 81) (B 64) (B 68) → A 49 face = s → s + 1 ≤ 2 * ctp (fs1 nd) N → (∀ f : Int, 0 ≤ f → f < N → nd f < s) → (∀ i, 0 ≤ i → i < n → Nag A B face i s) →
    ∃ A' B' s', (∀ P : Int → rhM → Prop, P s' A' → rh1 wh YX17_grow 3 46 [(0, 2, 41), (1, 0, face), (2, 0, n)] [] A P) ∧ eS wm YX32_tree 2 83 [(0, 2, 0), (1, 0, face), (2, 0, 300 * face), (3, 0, s), (4, 0, n)] [] B 83 [(0, 2, 0), (1, 0, face), (2, 0, 300 * face), (3, 0, s'), (4, 0, s')] [] B' ∧ A' 49 face = s' ∧ (0 ≤ s' ∧ s' ≤ 299) ∧ frx (Ftr face) A A' ∧ frx (Gtr face) B B' ∧ ∀ i, 0 ≤ i → i < s' → Nag A' B' face i s' := by
  intro m
  induction m with
  | zero =>
    intro n s nd A B hm0 hn Th Tm h49 hs hnd hN
    have cb := ctp_b (fs1 nd) N
    have := Th.2.1
    omega
  | succ m ih =>
    intro n s nd A B hm0 hn Th Tm h49 hs hnd hN
    have cb := ctp_b (fs1 nd) N
    have N1 := Th.2.1
    by_cases q : n < s
    · obtain ⟨A1, B1, s1, nd1, EA, EB, Th1, Tm1, k49, ls, hs1, hnd1, fA, fB, hN1⟩ := t_step hh hm hf hs ⟨hn.1, q⟩ hnd A B Th Tm h49
      obtain ⟨A2, B2, s2, EA2, EB2, l49, l0, fA2, fB2, hN2⟩ := ih (n + 1) s1 nd1 A1 B1 (by omega) ⟨by omega, by omega⟩ Th1 Tm1 k49 hs1 hnd1 (fun i i0 i1 => by
        by_cases z : i = n
        · rw [z]; exact hN1
        · exact (hN i i0 (by omega)).fx ls z fA fB)
      refine ⟨A2, B2, s2, fun P HP => ?_, EB.tr EB2, l49, l0, (fA.w (fun c j h => by unfold Ftr1 at h; unfold Ftr; omega)).tr fA2, (fB.w (fun c j h => by unfold Gtr1 at h; unfold Gtr; omega)).tr fB2, hN2⟩
      refine rh1.of (rX17_grow_46 hh _ _ _ ?_)
      rw [h49]
      refine ⟨hf, fun _ => ?_, fun y => absurd q y⟩
      refine rh1.s (vX17_grow_59 hh EA (LE0 rfl)) ?_
      refine rh1.of (rX17_grow_62 hh _ _ _ ?_)
      exact ⟨⟨by omega, by omega⟩, EA2 P HP⟩
    · have e : n = s := (by omega)
      refine ⟨A, B, s, fun P HP => ?_, by rw [e]; exact eS.rf, h49, ⟨by omega, by omega⟩, frx.rf, frx.rf, fun i i0 i1 => hN i i0 (by omega)⟩
      refine rh1.of (rX17_grow_46 hh _ _ _ ?_)
      rw [h49]
      exact ⟨hf, fun y => absurd y q, fun _ => ⟨hf, HP⟩⟩
theorem or_if {p q : Prop} : rh_or (rh_if p 1 0) (rh_if q 1 0) = rh_if (p ∨ q) 1 0 := by
  by_cases hp : p
  · rw [rh_if_t hp, rh_if_t (show p ∨ q from .inl hp)]
    by_cases hq : q
    · rw [rh_if_t hq]
      have := or01 (a := 1) (b := 1) (.inr rfl) (.inr rfl)
      omega
    · rw [rh_if_f hq]
      have := or01 (a := 1) (b := 0) (.inr rfl) (.inl rfl)
      omega
  · rw [rh_if_f hp]
    by_cases hq : q
    · rw [rh_if_t hq, rh_if_t (show p ∨ q from .inr hq)]
      have := or01 (a := 0) (b := 1) (.inl rfl) (.inr rfl)
      omega
    · rw [rh_if_f hq, rh_if_f (fun z => z.elim hp hq)]
      have := or01 (a := 0) (b := 0) (.inl rfl) (.inl rfl)
      omega
theorem c_hasFace (hh : rh_hs wh) {N : Nat} {fc : Int → Int} {face : Int} (M : rhM) (h0 : M 41 0 = N) (hN : N ≤ 150) (h : ∀ f : Int, 0 ≤ f → f < N → M 42 f = fc f) : eC wh YX17_hasFace 0 [(2, 41), (0, face)] M (rh_if (0 < ctp (fun f => fc f = face) N) 1 0) M := by
  refine eC.of1 (rC1.of (by decide) (LE0 rfl) ?_)
  generalize hP : (fun (r : Int) (M' : rhM) => r = rh_if (0 < ctp (fun f => fc f = face) N) 1 0 ∧ M' = M) = Post
  have w : ∀ (m j : Nat), j + m = N → rh1 wh YX17_hasFace 0 4 [(0, 2, 41), (1, 0, face), (2, 0, rh_if (0 < ctp (fun f => fc f = face) j) 1 0), (3, 0, (j : Int))] [] M Post := by
    intro m
    induction m with
    | zero =>
      intro j hj
      rw [show j = N by omega]
      refine rh1.of (rX17_hasFace_4 hh _ _ _ _ ?_)
      rw [h0]
      refine ⟨fun y => by omega, fun _ => ⟨?_, by rw [← hP]; exact ⟨rfl, rfl⟩⟩⟩
      by_cases q : 0 < ctp (fun f => fc f = face) N
      · rw [rh_if_t q]; omega
      · rw [rh_if_f q]; omega
    | succ m ih =>
      intro j hj
      refine rh1.of (rX17_hasFace_4 hh _ _ _ _ ?_)
      rw [h0, h j (by omega) (by omega)]
      refine ⟨fun _ => ⟨⟨by omega, by omega⟩, ?_⟩, fun y => by omega⟩
      intro x hx
      have ex : x = rh_if (0 < ctp (fun f => fc f = face) (j + 1)) 1 0 := by
        rw [hx, or_if]
        congr 1
        have cb := ctp_b (fun f => fc f = face) j
        by_cases q : fc j = face
        · rw [ctp_t (P := fun f => fc f = face) q]
          exact propext ⟨fun _ => by omega, fun _ => .inr q⟩
        · rw [ctp_f (P := fun f => fc f = face) q]
          exact propext ⟨fun z => z.resolve_right q, fun z => .inl z⟩
      rw [ex]
      exact ⟨⟨by omega, by omega⟩, ih (j + 1) (by omega)⟩
  refine rh1.of (rX17_hasFace_0 hh _ _ ?_)
  have z := w N 0 (by omega)
  rw [show ctp (fun f => fc f = face) 0 = 0 from rfl, rh_if_f (by decide)] at z
  exact z
theorem c_faceForms (hm : rh_ms wm) {N : Nat} {fc : Int → Int} {face : Int} (M : rhM) (h0 : M 0 89 = N) (hN : N ≤ 150) (h : ∀ f : Int, 0 ≤ f → f < N → M 63 f = fc f) : eC wm YX32_faceForms 0 [(2, 0), (0, face)] M (ctp (fun f => fc f = face) N) M := by
  refine eC.of1 (rC1.of (by decide) (LE0 rfl) ?_)
  generalize hP : (fun (r : Int) (M' : rhM) => r = ctp (fun f => fc f = face) N ∧ M' = M) = Post
  have w : ∀ (m j : Nat), j + m = N → rh1 wm YX32_faceForms 0 4 [(0, 2, 0), (1, 0, face), (2, 0, ctp (fun f => fc f = face) j), (3, 0, (j : Int))] [] M Post := by
    intro m
    induction m with
    | zero =>
      intro j hj
      rw [show j = N by omega]
      refine rh1.of (rX32_faceForms_4 hm _ _ _ _ ?_)
      rw [h0]
      exact ⟨fun y => by omega, fun _ => by rw [← hP]; exact ⟨rfl, rfl⟩⟩
    | succ m ih =>
      intro j hj
      refine rh1.of (rX32_faceForms_4 hm _ _ _ _ ?_)
      rw [h0, h j (by omega) (by omega)]
      refine ⟨fun _ => ⟨⟨by omega, by omega⟩, ?_⟩, fun y => by omega⟩
      intro x hx
      have cb := ctp_b (fun f => fc f = face) j
      have bx : rI x := by
        rw [hx]
        by_cases q : fc j = face
        · rw [rh_if_t q]; omega
        · rw [rh_if_f q]; omega
      rw [hx] at bx ⊢
      exact ⟨bx, ⟨by omega, by omega⟩, ih (j + 1) (by omega)⟩
  refine rh1.of (rX32_faceForms_0 hm _ _ ?_)
  exact w N 0 (by omega)
noncomputable def nd0 (fc : Int → Int) (face f : Int) : Int := rh_if (fc f = face) 0 (-1)
theorem h_start (hh : rh_hs wh) {N : Nat} {fc : Int → Int} {face : Int} (hf : 0 ≤ face ∧ face < 4) (M : rhM) (h0 : M 41 0 = N) (hN : N ≤ 150) (h : ∀ f : Int, 0 ≤ f → f < N → M 42 f = fc f) :
    ∃ A, eS wh YX17_grow 3 0 (rh_lo 0 [(2, 41), (0, face)]) [] M 46 [(0, 2, 41), (1, 0, face), (2, 0, 0)] [] A ∧ frx (fun c j => c = 55 ∨ (c = 49 ∧ j = face)) M A ∧ A 49 face = 1 ∧ ∀ f : Int, 0 ≤ f → f < N → A 55 f = nd0 fc face f := by
  have q : ∀ (m j : Nat) (A : rhM), j + m = N → frx (fun c _ => c = 55) M A → (∀ f : Int, 0 ≤ f → f < j → A 55 f = nd0 fc face f) → ∃ A', eS wh YX17_grow 3 2 [(0, 2, 41), (1, 0, face), (2, 0, (j : Int))] [] A 46 [(0, 2, 41), (1, 0, face), (2, 0, 0)] [] A' ∧ frx (fun c j => c = 55 ∨ (c = 49 ∧ j = face)) M A' ∧ A' 49 face = 1 ∧ ∀ f : Int, 0 ≤ f → f < N → A' 55 f = nd0 fc face f := by
    intro m
    induction m with
    | zero =>
      intro j A hj f hA
      refine ⟨rh_set A 49 face 1, eS.of (fun P HP => ?_), (f.w (fun c j h => .inl h)).st (.inr ⟨rfl, rfl⟩), rh_set_s _ _ _ _, fun i i0 i1 => ?_⟩
      · refine rh1.of (rX17_grow_2 hh _ _ _ ?_)
        rw [f 41 0 (by omega), h0]
        exact ⟨fun y => by omega, fun _ => ⟨hf, HP⟩⟩
      · rw [rh_set_a (by omega), hA i i0 (by omega)]
    | succ m ih =>
      intro j A hj f hA
      obtain ⟨A', E, r⟩ := ih (j + 1) (rh_set A 55 j (nd0 fc face j)) (by omega) (f.st rfl) (fun i i0 i1 => by
        by_cases z : i = j
        · rw [z, rh_set_s]
        · rw [rh_set_j z]; exact hA i i0 (by omega))
      refine ⟨A', eS.of (fun P HP => ?_), r⟩
      refine rh1.of (rX17_grow_2 hh _ _ _ ?_)
      rw [f 41 0 (by omega), h0, f 42 _ (by omega), h j (by omega) (by omega)]
      refine ⟨fun _ => ⟨⟨by omega, by omega⟩, ?_⟩, fun y => by omega⟩
      intro x hx
      have ex : x = nd0 fc face j := hx
      rw [ex]
      exact ⟨⟨by omega, by omega⟩, ⟨by omega, by omega⟩, rh1.s E HP⟩
  obtain ⟨A, E, r⟩ := q N 0 M (by omega) frx.rf (fun f f0 f1 => by omega)
  refine ⟨A, eS.of (fun P HP => ?_), r⟩
  refine rh1.of (rX17_grow_0 hh _ _ ?_)
  exact rh1.s E HP
theorem m_start (hm : rh_ms wm) {N : Nat} {fc : Int → Int} {face : Int} (M : rhM) (h0 : M 0 89 = N) (hN : N ≤ 150) (h : ∀ f : Int, 0 ≤ f → f < N → M 63 f = fc f) :
    ∃ A, eS wm YX32_tree 2 42 [(0, 2, 0), (1, 0, face), (2, 0, 300 * face), (3, 0, 1), (4, 0, 0)] [] M 83 [(0, 2, 0), (1, 0, face), (2, 0, 300 * face), (3, 0, 1), (4, 0, 0)] [] A ∧ frx (fun c j => c = 81) M A ∧ ∀ f : Int, 0 ≤ f → f < N → A 81 f = nd0 fc face f := by
  have q : ∀ (m j : Nat) (A : rhM), j + m = N → frx (fun c _ => c = 81) M A → (∀ f : Int, 0 ≤ f → f < j → A 81 f = nd0 fc face f) → ∃ A', eS wm YX32_tree 2 42 [(0, 2, 0), (1, 0, face), (2, 0, 300 * face), (3, 0, 1), (4, 0, (j : Int))] [] A 83 [(0, 2, 0), (1, 0, face), (2, 0, 300 * face), (3, 0, 1), (4, 0, 0)] [] A' ∧ frx (fun c j => c = 81) M A' ∧ ∀ f : Int, 0 ≤ f → f < N → A' 81 f = nd0 fc face f := by
    intro m
    induction m with
    | zero =>
      intro j A hj f hA
      refine ⟨A, eS.of (fun P HP => ?_), f, fun i i0 i1 => hA i i0 (by omega)⟩
      refine rh1.of (rX32_tree_42 hm _ _ _ _ _ ?_)
      rw [f 0 89 (by omega), h0]
      exact ⟨fun y => by omega, fun _ => HP⟩
    | succ m ih =>
      intro j A hj f hA
      obtain ⟨A', E, r⟩ := ih (j + 1) (rh_set A 81 j (nd0 fc face j)) (by omega) (f.st rfl) (fun i i0 i1 => by
        by_cases z : i = j
        · rw [z, rh_set_s]
        · rw [rh_set_j z]; exact hA i i0 (by omega))
      refine ⟨A', eS.of (fun P HP => ?_), r⟩
      refine rh1.of (rX32_tree_42 hm _ _ _ _ _ ?_)
      rw [f 0 89 (by omega), h0, f 63 _ (by omega), h j (by omega) (by omega)]
      refine ⟨fun _ => ⟨⟨by omega, by omega⟩, ?_⟩, fun y => by omega⟩
      intro x hx
      have ex : x = nd0 fc face j := hx
      rw [ex]
      exact ⟨⟨by omega, by omega⟩, ⟨by omega, by omega⟩, rh1.s E HP⟩
  exact q N 0 M (by omega) frx.rf (fun f f0 f1 => by omega)
def Ptree (Mh Mm M' M2' : rhM) : Prop := Rtr M' M2' ∧ frx (fun c j => 49 ≤ c ∧ c ≤ 57) Mh M' ∧ frx (fun c j => (75 ≤ c ∧ c ≤ 83) ∨ (c = 0 ∧ (j = 0 ∨ (112 ≤ j ∧ j ≤ 114)))) Mm M2'
theorem Rtr.st0 {Mh Mm : rhM} (T : Rtr Mh Mm) : Rtr Mh (rh_set Mm 0 0 0) := fun f f0 f1 => by
  have := T f f0 f1
  simp only [rh_set_a (show (75 : Int) ≠ 0 by decide), rh_set_a (show (76 : Int) ≠ 0 by decide), rh_set_a (show (77 : Int) ≠ 0 by decide), rh_set_a (show (78 : Int) ≠ 0 by decide), rh_set_a (show (79 : Int) ≠ 0 by decide), rh_set_a (show (80 : Int) ≠ 0 by decide)]
  exact this
theorem op_tree (hh : rh_hs wh) (hm : rh_ms wm) {Mh Mm : rhM} (F : Rfm Mh Mm) (T : Rtr Mh Mm) (x1 : Int) : rC2 wh YX1_tree 4 [(2, 0), (0, x1)] Mh wm YX32_tree 2 [(2, 0), (0, x1)] Mm (fun r M' r2 M2' => r = r2 ∧ Ptree Mh Mm M' M2') := by
  refine rC2.of (by decide) (LE0 rfl) (by decide) (LE0 rfl) ?_
  have P0 : Ptree Mh Mm Mh (rh_set Mm 0 0 0) := ⟨T.st0, frx.rf, frx.rf.st (by omega)⟩
  refine rh2.l (rX1_tree_0 hh _ _ ?_)
  refine ⟨fun c => ?_, fun c => ?_⟩
  · refine rh1.of (rX32_tree_0 hm _ _ ?_)
    exact ⟨fun _ => ⟨rfl, P0⟩, fun z => absurd c z⟩
  have hf : 0 ≤ x1 ∧ x1 < 4 := ⟨by omega, by omega⟩
  obtain ⟨r1, r2, r3⟩ := F
  obtain ⟨N, hN⟩ : ∃ N : Nat, Mm 0 89 = N := ⟨(Mm 0 89).toNat, (by omega)⟩
  rw [hN] at r1 r2 r3
  have e89 : rh_set Mm 0 0 0 0 89 = N := by rw [rh_set_j (by decide)]; exact hN
  have Kh := c_hasFace hh (fc := Mm 63) (face := x1) Mh r1 (by omega) (fun f f0 f1 => (r3 f f0 f1).1.1)
  have Km := c_faceForms hm (fc := Mm 63) (face := x1) (rh_set Mm 0 0 0) e89 (by omega) (fun f f0 f1 => rh_set_a (by decide))
  refine rh2.r (rX32_tree_0 hm _ _ ?_)
  refine ⟨fun z => absurd z c, fun _ => ?_⟩
  refine rh2.sl (vX1_tree_17 hh Kh (LE0 rfl)) ?_
  refine rh2.sr (vX32_tree_22 hm Km (LE0 rfl)) ?_
  by_cases q : 0 < ctp (fun f => Mm 63 f = x1) N
  · rw [rh_if_t q]
    obtain ⟨A1, EA1, fA1, a1, a2⟩ := h_start hh hf Mh r1 (by omega) (fun f f0 f1 => (r3 f f0 f1).1.1)
    obtain ⟨B1, EB1, fB1, b2⟩ := m_start hm (fc := Mm 63) (face := x1) (rh_set Mm 0 0 0) e89 (by omega) (fun f f0 f1 => rh_set_a (by decide))
    have Th : Trd N (nd0 (Mm 63) x1) (Mm 64) (Mm 68) (A1 41 0) (A1 55) (A1 43) (A1 47) := by
      refine ⟨(fA1 41 0 (by omega)).trans r1, (by omega), fun f f0 f1 => ⟨a2 f f0 f1, ?_⟩⟩
      obtain ⟨-, y2, -, -, -, y6, -⟩ := r3 f f0 f1
      rw [fA1 43 _ (by omega)]
      refine ⟨y2.1, y2.2, fun k k0 k1 => ?_⟩
      rw [fA1 47 _ (by omega)]
      have := y6 k k0 k1
      exact ⟨this.1, this.2.1, by omega⟩
    have Tm : Trd N (nd0 (Mm 63) x1) (Mm 64) (Mm 68) (B1 0 89) (B1 81) (B1 64) (B1 68) := by
      refine ⟨(fB1 0 89 (by omega)).trans e89, (by omega), fun f f0 f1 => ⟨b2 f f0 f1, ?_⟩⟩
      obtain ⟨-, y2, -, -, -, y6, -⟩ := r3 f f0 f1
      rw [fB1 64 _ (by omega), rh_set_a (by omega)]
      refine ⟨rfl, y2.2, fun k k0 k1 => ?_⟩
      rw [fB1 68 _ (by omega), rh_set_a (by omega)]
      have := y6 k k0 k1
      exact ⟨rfl, this.2.1, by omega⟩
    have one : 0 < ctp (fs1 (nd0 (Mm 63) x1)) N := by
      obtain ⟨f, f0, f1, f2, f3⟩ := lst1 N (ctp_pos.mp q)
      refine ctp_pos.mpr ⟨f, f0, f1, ?_, fun g g0 g1 => ?_⟩
      · unfold nd0; rw [rh_if_t f2]; omega
      · unfold nd0; rw [rh_if_t f2, rh_if_f (f3 g g0 g1)]; decide
    obtain ⟨A2, B2, s, EA2, EB2, l49, l0, fA2, fB2, hN2⟩ := t_loop hh hm (N := N) (lt := Mm 64) (G := Mm 68) hf 300 0 1 (nd0 (Mm 63) x1) A1 B1 (by omega) ⟨by omega, by omega⟩ Th Tm a1 (by omega) (fun f f0 f1 => by
      unfold nd0
      by_cases z : Mm 63 f = x1
      · rw [rh_if_t z]; decide
      · rw [rh_if_f z]; decide) (fun i i0 i1 => by omega)
    have Kg : eC wh YX17_grow 3 [(2, 41), (0, x1)] Mh s A2 := eC.of1 (rC1.of (by decide) (LE0 rfl) (rh1.s EA1 (EA2 _ ⟨rfl, rfl⟩)))
    refine rh2.l (rX1_tree_20 hh _ _ _ ?_)
    refine ⟨fun _ => ?_, fun y => absurd (show (1 : Int) ≠ 0 by decide) y⟩
    refine rh2.sl (vX1_tree_28 hh Kg (LE0 rfl)) ?_
    refine rh2.l (rX1_tree_31 hh _ _ ?_)
    refine rh1.of (rX32_tree_25 hm _ _ _ ?_)
    refine ⟨fun y => by omega, fun _ => ⟨⟨by omega, by omega⟩, ?_⟩⟩
    refine rh1.s (EB1.tr EB2) ?_
    refine rh1.of (rX32_tree_83 hm _ _ _ _ _ ?_)
    refine ⟨fun y => absurd y (Int.lt_irrefl _), fun _ => ⟨hf, rfl, ?_⟩⟩
    have gA : frx (fun c j => (c = 49 ∧ j = x1) ∨ ((50 ≤ c ∧ c ≤ 54) ∧ 300 * x1 ≤ j ∧ j < 300 * x1 + 300) ∨ (55 ≤ c ∧ c ≤ 57)) Mh A2 := (fA1.w (fun c j h => by omega)).tr (fA2.w (fun c j h => h))
    have gB : frx (fun c j => ((76 ≤ c ∧ c ≤ 80) ∧ 300 * x1 ≤ j ∧ j < 300 * x1 + 300) ∨ (81 ≤ c ∧ c ≤ 83) ∨ (c = 0 ∧ (j = 0 ∨ (112 ≤ j ∧ j ≤ 114)))) Mm B2 := ((frx.rf.st (by omega)).tr (fB1.w (fun c j h => by omega))).tr (fB2.w (fun c j h => by unfold Gtr at h; omega))
    refine ⟨fun f f0 f1 => ?_, gA.w (fun c j h => by omega), (gB.w (fun c j h => by omega)).st (by omega)⟩
    simp only [rh_set_a (show (76 : Int) ≠ 75 by decide), rh_set_a (show (77 : Int) ≠ 75 by decide), rh_set_a (show (78 : Int) ≠ 75 by decide), rh_set_a (show (79 : Int) ≠ 75 by decide), rh_set_a (show (80 : Int) ≠ 75 by decide)]
    by_cases z : f = x1
    · rw [z, rh_set_s]
      refine ⟨l49, ⟨by omega, by omega⟩, fun n n0 n1 => ?_⟩
      exact hN2 n n0 n1
    · rw [rh_set_j z]
      obtain ⟨t1, t2, t3⟩ := T f f0 f1
      rw [gA 49 f (by omega), gB 75 f (by omega)]
      refine ⟨t1, t2, fun n n0 n1 => ?_⟩
      rw [gA 50 _ (by omega), gA 51 _ (by omega), gA 52 _ (by omega), gA 53 _ (by omega), gA 54 _ (by omega), gB 76 _ (by omega), gB 77 _ (by omega), gB 78 _ (by omega), gB 79 _ (by omega), gB 80 _ (by omega)]
      exact t3 n n0 n1
  · have cz := ctp_b (fun f => Mm 63 f = x1) N
    rw [rh_if_f q]
    refine rh2.l (rX1_tree_20 hh _ _ _ ?_)
    refine ⟨fun y => absurd rfl y, fun _ => ?_⟩
    refine rh1.of (rX32_tree_25 hm _ _ _ ?_)
    exact ⟨fun _ => ⟨rfl, P0⟩, fun y => by omega⟩
end TreeOp
