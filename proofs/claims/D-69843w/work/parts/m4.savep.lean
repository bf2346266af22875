/-! ===== LAYER 2: op save: the house's faces and readings; the operation ===== -/
section SaveP
variable {wh wm : rhW}
/-- the house's row when it has ended -/
def Hrw (Mh Mm A : rhM) (kd : Int) (l : List Int) : Prop := A 233 2 = Mm 0 252 + 1 ∧ A 233 3 = 1 ∧ A 235 (Mm 0 252 + 1) = Mm 0 253 + (hd3 kd l.length ++ l).length + 2 ∧ (∀ i : Nat, i < (hd3 kd l.length ++ l).length + 2 → rh_and (A 234 (Mm 0 253 + i)) 255 = (hd3 kd l.length ++ l ++ [rh_and (rh_shr (lsm (hd3 kd l.length ++ l)) 8) 255] ++ [rh_and (lsm (hd3 kd l.length ++ l)) 255]).getD i 0 ∧ -128 ≤ A 234 (Mm 0 253 + i) ∧ A 234 (Mm 0 253 + i) ≤ 127) ∧ frx (fun c j => Fsw (Mm 0 252) (Mm 0 253) c j ∨ Fdr c j) Mh A
theorem h_face (hh : rh_hs wh) {Mh Mm : rhM} (R : Rst Mh Mm) (F : Rfm Mh Mm) {face : Int} {N : Nat} (hN : Mm 0 89 = N) : (fcl Mm face N = [] → eC wh YX1_saveFace 3 [(2, 0), (0, face)] Mh (-103) Mh) ∧ (fcl Mm face N ≠ [] → ¬ Rmo (Mm 0 252) (Mm 0 253) 2 (fcl Mm face N).length → eC wh YX1_saveFace 3 [(2, 0), (0, face)] Mh (-104) Mh) ∧ (fcl Mm face N ≠ [] → Rmo (Mm 0 252) (Mm 0 253) 2 (fcl Mm face N).length → ∃ A, eC wh YX1_saveFace 3 [(2, 0), (0, face)] Mh (Mm 0 252) A ∧ Hrw Mh Mm A 2 (fcl Mm face N)) := by
  obtain ⟨⟨r1, r2, r3⟩, r4, r5, r6⟩ := h_room R
  obtain ⟨s1, s2, s3⟩ := F
  rw [hN] at s1 s2 s3
  obtain ⟨m, hm⟩ : ∃ m, m = Mm 0 252 := ⟨_, rfl⟩
  obtain ⟨p, hp⟩ : ∃ p, p = Mm 0 253 := ⟨_, rfl⟩
  unfold Hrw
  rw [← hm] at r1 r2 r3 r4 ⊢
  rw [← hp] at r4 r5 r6 ⊢
  have lb : ∀ j : Nat, j ≤ N → (fcl Mm face j).length ≤ 3000 := fun j hj => by
    have fl := fcl_l (M := Mm) (face := face) j
    have cb := ctp_b (fun i => Mm 63 i = face) j
    omega
  obtain ⟨n, hn⟩ : ∃ n : Nat, n = (fcl Mm face N).length := ⟨_, rfl⟩
  have nb := lb N (Nat.le_refl _)
  -- how many bytes
  have cnt : ∀ P : Int → rhM → Prop, rh1 wh YX1_saveFace 3 4 [(0, 2, 0), (1, 0, face), (2, 0, (n : Int)), (3, 0, (N : Int))] [] Mh P → rh1 wh YX1_saveFace 3 0 (rh_lo 0 [(2, 0), (0, face)]) [] Mh P := fun P HP => by
    have key : ∀ (u j : Nat), j + u = N → rh1 wh YX1_saveFace 3 4 [(0, 2, 0), (1, 0, face), (2, 0, ((fcl Mm face j).length : Int)), (3, 0, (j : Int))] [] Mh P := by
      intro u
      induction u with
      | zero =>
        intro j hj
        have e : j = N := by omega
        subst e
        rw [hn] at HP
        exact HP
      | succ u ih =>
        intro j hj
        have q := (s3 j (by omega) (by omega)).1.1
        have K := ih (j + 1) (by omega)
        have l1 := lb j (by omega)
        have e : ((fcl Mm face (j + 1)).length : Int) = (fcl Mm face j).length + rh_if (Mm 63 j = face) (20 : Int) 0 := by
          simp only [fcl]
          rw [List.length_append]
          by_cases h : Mm 63 j = face
          · rw [rh_if_t h, rh_if_t h, List.length_append, ftl_l]
            show (((fcl Mm face j).length + (1 + 19) : Nat) : Int) = _
            omega
          · rw [rh_if_f h, rh_if_f h]
            show (((fcl Mm face j).length + 0 : Nat) : Int) = _
            omega
        have l2 := lb (j + 1) (by omega)
        refine rh1.of (rX1_saveFace_4 hh _ _ _ _ ?_)
        rw [s1, q, ← e]
        refine ⟨fun _ => ⟨⟨by omega, by omega⟩, fun y hy => ?_⟩, fun z => by omega⟩
        rw [hy]
        exact ⟨⟨by omega, by omega⟩, ⟨by omega, by omega⟩, K⟩
    refine rh1.of (rX1_saveFace_0 hh _ _ ?_)
    exact key N 0 (by omega)
  have at4 : ∀ P : Int → rhM → Prop, (n = 0 → P (-103) Mh) → (n ≠ 0 → ¬ Rmo m p 2 n → P (-104) Mh) → (n ≠ 0 → Rmo m p 2 n → rh1 wh YX1_saveFace 3 70 [(0, 2, 0), (1, 0, face)] [(0, (n : Int)), (0, 2), (2, 233)] Mh P) → rh1 wh YX1_saveFace 3 0 (rh_lo 0 [(2, 0), (0, face)]) [] Mh P := fun P h1 h2 h3 => by
    refine cnt P ?_
    refine rh1.of (rX1_saveFace_4 hh _ _ _ _ ?_)
    rw [s1, r1, r4]
    refine ⟨fun z => by omega, fun _ => ⟨fun z => h1 (by omega), fun z => ⟨fun _ => ⟨by omega, by omega⟩, fun _ => ⟨by omega, by omega⟩, fun y => h2 (by omega) ?_, fun y => h3 (by omega) ?_⟩⟩⟩
    · unfold Rmo
      intro q
      exact y ⟨by omega, by omega⟩
    · have y := Classical.not_not.mp y
      exact ⟨by omega, fun z => absurd z (by decide), by omega⟩
  refine ⟨fun e => eC.of1 (rC1.of (by decide) (LE0 rfl) (at4 _ (fun _ => ⟨rfl, rfl⟩) (fun z => absurd (by rw [hn, e]; rfl) z) (fun z => absurd (by rw [hn, e]; rfl) z))), fun e q => eC.of1 (rC1.of (by decide) (LE0 rfl) (at4 _ (fun z => absurd (List.eq_nil_of_length_eq_zero (by omega)) e) (fun _ _ => ⟨rfl, rfl⟩) (fun _ z => absurd (by rw [← hn]; exact z) q))), fun e q => ?_⟩
  rw [← hn] at q ⊢
  obtain ⟨m1, -, room⟩ := q
  obtain ⟨A1, E1, o1, f1⟩ := c_sbeg hh (kd := 2) (n := (n : Int)) r1 r4 ⟨r2, m1⟩ r5 (by omega)
  rw [hd3_e (by decide) ⟨by omega, by omega⟩] at o1
  have l3 : (hd3 2 (n : Int)).length = 3 := rfl
  have rd : ∀ X : rhM, frx (Fsv m p) Mh X → X 41 0 = N ∧ ∀ j : Int, 0 ≤ j → j < N → X 42 j = Mm 63 j ∧ X 43 j = Mm 64 j ∧ ∀ k, 0 ≤ k → k < 19 → X 47 (19 * j + k) = Mm 68 (19 * j + k) := fun X f => by
    refine ⟨by rw [f _ _ (by unfold Fsv; omega)]; exact s1, fun j j0 j1 => ?_⟩
    obtain ⟨t1, t2, -, -, -, t6, -⟩ := s3 j j0 j1
    exact ⟨by rw [f _ _ (by unfold Fsv; omega)]; exact t1.1, by rw [f _ _ (by unfold Fsv; omega)]; exact t2.1, fun k k0 k1 => by rw [f _ _ (by unfold Fsv; omega)]; exact (t6 k k0 k1).1⟩
  have pre : ∀ j : Nat, j ≤ N → (fcl Mm face j).length ≤ n := fun j hj => by
    have h1 := fcl_l (M := Mm) (face := face) j
    have h2 := fcl_l (M := Mm) (face := face) N
    have h3 := ctp_mono (P := fun i => Mm 63 i = face) hj
    omega
  have key : ∀ (u j : Nat) (X : rhM), j + u = N → Sox X m p (hd3 2 n ++ fcl Mm face j) → frx (Fsv m p) Mh X → ∃ X', (∀ P : Int → rhM → Prop, rh1 wh YX1_saveFace 3 75 [(0, 2, 0), (1, 0, face), (3, 0, (N : Int))] [] X' P → rh1 wh YX1_saveFace 3 75 [(0, 2, 0), (1, 0, face), (3, 0, (j : Int))] [] X P) ∧ Sox X' m p (hd3 2 n ++ fcl Mm face N) ∧ frx (Fsv m p) Mh X' := by
    intro u
    induction u with
    | zero =>
      intro j X hj o f
      have e : j = N := by omega
      subst e
      exact ⟨X, fun P K => K, o, f⟩
    | succ u ih =>
      intro j X hj o f
      obtain ⟨d1, d2⟩ := rd X f
      obtain ⟨d3, d4, d5⟩ := d2 j (by omega) (by omega)
      obtain ⟨-, t2, -, -, -, t6, -⟩ := s3 j (by omega) (by omega)
      have pj := pre j (by omega)
      have pj1 := pre (j + 1) (by omega)
      by_cases h : Mm 63 j = face
      · have e : fcl Mm face (j + 1) = fcl Mm face j ++ ([Mm 64 j] ++ ftl Mm j 19) := by
          simp only [fcl]
          rw [rh_if_t h]
        have ln : (fcl Mm face (j + 1)).length = (fcl Mm face j).length + 20 := by
          rw [e, List.length_append, List.length_append, ftl_l]
          rfl
        obtain ⟨X1, EX, oX, fX⟩ := c_sadd hh (b := Mm 64 j) o ⟨r2, m1⟩ r5 (by rw [List.length_append, l3]; omega)
        rw [and_id ⟨by omega, by omega⟩] at oX
        have k2 : ∀ (v k : Nat) (Z : rhM), k + v = 19 → Sox Z m p (hd3 2 n ++ fcl Mm face j ++ [Mm 64 j] ++ ftl Mm j k) → frx (Fsv m p) Mh Z → ∃ Z', (∀ P : Int → rhM → Prop, rh1 wh YX1_saveFace 3 75 [(0, 2, 0), (1, 0, face), (3, 0, (j : Int) + 1)] [] Z' P → rh1 wh YX1_saveFace 3 118 [(0, 2, 0), (1, 0, face), (3, 0, (j : Int)), (4, 0, (k : Int))] [] Z P) ∧ Sox Z' m p (hd3 2 n ++ fcl Mm face j ++ [Mm 64 j] ++ ftl Mm j 19) ∧ frx (Fsv m p) Mh Z' := by
          intro v
          induction v with
          | zero =>
            intro k Z hk oz fz
            have e : k = 19 := by omega
            subst e
            refine ⟨Z, fun P K => ?_, oz, fz⟩
            refine rh1.of (rX1_saveFace_118 hh _ _ _ _ ?_)
            exact ⟨fun z => by omega, fun _ => ⟨⟨by omega, by omega⟩, K⟩⟩
          | succ v iv =>
            intro k Z hk oz fz
            have g68 := ((rd Z fz).2 j (by omega) (by omega)).2.2 k (by omega) (by omega)
            have tb := (t6 k (by omega) (by omega)).2
            have lz : (hd3 2 (n : Int) ++ fcl Mm face j ++ [Mm 64 j] ++ ftl Mm j k).length = 3 + (fcl Mm face j).length + 1 + k := by
              rw [List.length_append, List.length_append, List.length_append, ftl_l, List.length_singleton, l3]
            obtain ⟨Z1, EZ, oZ, fZ⟩ := c_sadd hh (b := Mm 68 (19 * j + k)) oz ⟨r2, m1⟩ r5 (by rw [lz]; omega)
            rw [and_id tb, List.append_assoc] at oZ
            obtain ⟨Z', E', o'', f''⟩ := iv (k + 1) Z1 (by omega) oZ (fz.tr fZ)
            refine ⟨Z', fun P K => ?_, o'', f''⟩
            refine rh1.of (rX1_saveFace_118 hh _ _ _ _ ?_)
            rw [g68]
            refine ⟨fun _ => ⟨⟨by omega, by omega⟩, rh1.s (vX1_saveFace_144 hh EZ (LE0 rfl)) ?_⟩, fun z => by omega⟩
            refine rh1.of (rX1_saveFace_147 hh _ _ _ _ ?_)
            exact ⟨⟨by omega, by omega⟩, E' P K⟩
        obtain ⟨Z', EZ, oZ, fZ⟩ := k2 19 0 X1 (by omega) (by simp only [ftl]; rw [List.append_nil]; exact oX) (f.tr fX)
        have e2 : hd3 2 (n : Int) ++ fcl Mm face j ++ [Mm 64 j] ++ ftl Mm j 19 = hd3 2 n ++ fcl Mm face (j + 1) := by
          rw [e]
          simp only [List.append_assoc]
        rw [e2] at oZ
        obtain ⟨X', E', o'', f''⟩ := ih (j + 1) Z' (by omega) oZ fZ
        refine ⟨X', fun P K => ?_, o'', f''⟩
        refine rh1.of (rX1_saveFace_75 hh _ _ _ ?_)
        rw [d1, d3, d4]
        refine ⟨fun _ => ⟨⟨by omega, by omega⟩, fun _ => ⟨⟨by omega, by omega⟩, rh1.s (vX1_saveFace_112 hh EX (LE0 rfl)) ?_⟩, fun z => absurd h z⟩, fun z => by omega⟩
        refine rh1.of (rX1_saveFace_115 hh _ _ _ ?_)
        exact EZ P (E' P K)
      · have e : fcl Mm face (j + 1) = fcl Mm face j := by
          simp only [fcl]
          rw [rh_if_f h, List.append_nil]
        rw [← e] at o
        obtain ⟨X', E', o'', f''⟩ := ih (j + 1) X (by omega) o f
        refine ⟨X', fun P K => ?_, o'', f''⟩
        refine rh1.of (rX1_saveFace_75 hh _ _ _ ?_)
        rw [d1, d3]
        exact ⟨fun _ => ⟨⟨by omega, by omega⟩, fun z => absurd z h, fun _ => ⟨⟨by omega, by omega⟩, E' P K⟩⟩, fun z => by omega⟩
  obtain ⟨A4, E4, o4, f4⟩ := key N 0 A1 (by omega) (by simp only [fcl]; rw [List.append_nil]; exact o1) f1
  have alL : Al (hd3 2 (n : Int) ++ fcl Mm face N) := (Al.hd (by decide) ⟨by omega, by omega⟩).ap (Al.fc (fun j hj => by
    obtain ⟨-, t2, -, -, -, t6, -⟩ := s3 j (by omega) (by omega)
    exact ⟨⟨by omega, by omega⟩, fun k hk => (t6 k (by omega) (by omega)).2⟩))
  have lL : (hd3 2 (n : Int) ++ fcl Mm face N).length = 3 + n := by rw [List.length_append, l3, ← hn]
  obtain ⟨A5, E5, q1, q2, q3, q4, f5⟩ := c_send hh o4 alL ⟨r2, m1⟩ r5 (by rw [lL]; omega)
  refine ⟨A5, eC.of1 (rC1.of (by decide) (LE0 rfl) (at4 _ (fun z => absurd (List.eq_nil_of_length_eq_zero (by omega)) e) (fun _ z => absurd ⟨m1, fun z => absurd z (by decide), room⟩ z) (fun _ _ => ?_))), q1, q2, q3, fun i hi => q4 i hi, ((f4.w (fun c j h => .inl h)).tr f5).w (fun c j h => .inl h)⟩
  refine rh1.s (vX1_saveFace_70 hh E1 (LE0 rfl)) ?_
  refine rh1.of (rX1_saveFace_73 hh _ _ ?_)
  refine E4 _ ?_
  obtain ⟨d1, -⟩ := rd A4 f4
  refine rh1.of (rX1_saveFace_75 hh _ _ _ ?_)
  rw [d1]
  refine ⟨fun z => by omega, fun _ => rh1.s (vX1_saveFace_163 hh E5 (LE0 rfl)) ?_⟩
  refine rh1.of (rX1_saveFace_166 hh _ _ ?_)
  exact ⟨rfl, rfl⟩
theorem h_rdg (hh : rh_hs wh) {Mh Mm A : rhM} {r : Int} {l : List Int} (R : Rst Mh Mm) (hr : 0 ≤ r ∧ r < 4) (E : eC wh YX1_write 7 [(2, 0), (2, 563 + 18 * r), (0, 1)] Mh 0 A) (o : Hox A l) (al : Al l) (hl : l.length ≤ 16000) (f : frx Fdr Mh A) : (¬ Rmo (Mm 0 252) (Mm 0 253) 1 l.length → eC wh YX1_saveReading 8 [(2, 0), (2, 563 + 18 * r)] Mh (-104) A) ∧ (Rmo (Mm 0 252) (Mm 0 253) 1 l.length → ∃ A', eC wh YX1_saveReading 8 [(2, 0), (2, 563 + 18 * r)] Mh (Mm 0 252) A' ∧ Hrw Mh Mm A' 1 l) := by
  have hx := hs_rd hh hr.1 hr.2
  obtain ⟨⟨r1, r2, r3⟩, r4, r5, r6⟩ := h_room R
  obtain ⟨m, hm⟩ : ∃ m, m = Mm 0 252 := ⟨_, rfl⟩
  obtain ⟨p, hp⟩ : ∃ p, p = Mm 0 253 := ⟨_, rfl⟩
  unfold Hrw
  rw [← hm] at r1 r2 r3 r4 ⊢
  rw [← hp] at r4 r5 r6 ⊢
  have g1 : A 233 2 = m := by rw [f _ _ (by unfold Fdr; omega)]; exact r1
  have g2 : A 235 m = p := by rw [f _ _ (by unfold Fdr; omega)]; exact r4
  obtain ⟨n, hn⟩ : ∃ n : Nat, n = l.length := ⟨_, rfl⟩
  have o1 := o.1
  rw [← hn] at o1 hl ⊢
  have at6 : ∀ P : Int → rhM → Prop, (¬ Rmo m p 1 n → P (-104) A) → (Rmo m p 1 n → rh1 wh YX1_saveReading 8 41 [(0, 2, 0), (2, 0, (n : Int))] [(0, (n : Int)), (0, 1), (2, 233)] A P) → rh1 wh YX1_saveReading 8 0 (rh_lo 0 [(2, 0), (2, 563 + 18 * r)]) [] Mh P := fun P h1 h2 => by
    refine rh1.of (rX1_saveReading_0 hh _ _ hx ?_)
    refine rh1.s (vX1_saveReading_3 hh E (LE0 rfl)) ?_
    refine rh1.of (rX1_saveReading_6 hh _ ?_)
    rw [o1, g1, g2]
    refine ⟨fun _ _ => ⟨by omega, by omega⟩, fun _ _ => ⟨by omega, by omega⟩, fun z => h1 ?_, fun z => h2 ?_⟩
    · intro q
      obtain ⟨q1, q2, q3⟩ := q
      have q2 := q2 rfl
      rcases z with z | z
      · omega
      · exact z ⟨q1, by omega⟩
    · have z1 : ¬ 6000 < (n : Int) := fun y => z (.inl y)
      have z2 := Classical.not_not.mp (fun y => z (.inr y))
      exact ⟨z2.1, fun _ => by omega, by omega⟩
  refine ⟨fun q => eC.of1 (rC1.of (by decide) (LE0 rfl) (at6 _ (fun _ => ⟨rfl, rfl⟩) (fun z => absurd z q))), fun q => ?_⟩
  have q' := q
  obtain ⟨m1, q2, room⟩ := q
  have n6 := q2 rfl
  obtain ⟨A1, E1, s1, f1⟩ := c_sbeg hh (kd := 1) (n := (n : Int)) g1 g2 ⟨r2, m1⟩ r5 (by omega)
  rw [hd3_e (by decide) ⟨by omega, by omega⟩] at s1
  have l3 : (hd3 1 (n : Int)).length = 3 := rfl
  have key : ∀ (u k : Nat) (X : rhM), k + u = n → Sox X m p (hd3 1 n ++ l.take k) → frx (Fsv m p) A X → ∃ X', (∀ P : Int → rhM → Prop, rh1 wh YX1_saveReading 8 46 [(0, 2, 0), (2, 0, (n : Int)), (3, 0, (n : Int))] [] X' P → rh1 wh YX1_saveReading 8 46 [(0, 2, 0), (2, 0, (n : Int)), (3, 0, (k : Int))] [] X P) ∧ Sox X' m p (hd3 1 n ++ l) ∧ frx (Fsv m p) A X' := by
    intro u
    induction u with
    | zero =>
      intro k X hk s fx
      have e : k = n := by omega
      subst e
      rw [List.take_of_length_le (by omega)] at s
      exact ⟨X, fun P K => K, s, fx⟩
    | succ u ih =>
      intro k X hk s fx
      have kl : k < l.length := by omega
      have c6 : X 6 k = rh_i2b (l.getD k 0) := by rw [fx _ _ (by unfold Fsv; omega)]; exact o.2 k kl (by omega)
      have lt : (hd3 1 (n : Int) ++ l.take k).length = 3 + k := by rw [List.length_append, List.length_take, l3]; omega
      obtain ⟨X1, E', s', f'⟩ := c_sadd hh (b := X 6 k) s ⟨r2, m1⟩ r5 (by rw [lt]; omega)
      have et : hd3 1 (n : Int) ++ l.take k ++ [rh_and (X 6 k) 255] = hd3 1 n ++ l.take (k + 1) := by
        rw [c6, and_i2b, and_id (al.gd k kl), List.append_assoc, List.take_succ, List.getD_eq_getElem?_getD, List.getElem?_eq_getElem kl]
        rfl
      rw [et] at s'
      obtain ⟨X', EE, s'', f''⟩ := ih (k + 1) X1 (by omega) s' (fx.tr f')
      refine ⟨X', fun P K => ?_, s'', f''⟩
      refine rh1.of (rX1_saveReading_46 hh _ _ _ ?_)
      refine ⟨fun _ => ⟨⟨by omega, by omega⟩, rh1.s (vX1_saveReading_64 hh E' (LE0 rfl)) ?_⟩, fun z => by omega⟩
      refine rh1.of (rX1_saveReading_67 hh _ _ _ ?_)
      exact ⟨⟨by omega, by omega⟩, EE P K⟩
  obtain ⟨A4, E4, o4, f4⟩ := key n 0 A1 (by omega) (by rw [List.take_zero, List.append_nil]; exact s1) f1
  have alL : Al (hd3 1 (n : Int) ++ l) := (Al.hd (by decide) ⟨by omega, by omega⟩).ap al
  have lL : (hd3 1 (n : Int) ++ l).length = 3 + n := by rw [List.length_append, l3, ← hn]
  obtain ⟨A5, E5, w1, w2, w3, w4, f5⟩ := c_send hh o4 alL ⟨r2, m1⟩ r5 (by rw [lL]; omega)
  refine ⟨A5, eC.of1 (rC1.of (by decide) (LE0 rfl) (at6 _ (fun z => absurd q' z) (fun _ => ?_))), w1, w2, w3, fun i hi => w4 i hi, (f.w (fun c j h => .inr h)).tr (((f4.w (fun c j h => .inl h)).tr f5).w (fun c j h => .inl h))⟩
  refine rh1.s (vX1_saveReading_41 hh E1 (LE0 rfl)) ?_
  refine rh1.of (rX1_saveReading_44 hh _ _ ?_)
  refine E4 _ ?_
  refine rh1.of (rX1_saveReading_46 hh _ _ _ ?_)
  refine ⟨fun z => by omega, fun _ => rh1.s (vX1_saveReading_77 hh E5 (LE0 rfl)) ?_⟩
  refine rh1.of (rX1_saveReading_80 hh _ _ ?_)
  exact ⟨rfl, rfl⟩
end SaveP
