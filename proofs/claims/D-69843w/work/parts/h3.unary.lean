/-! ===== LAYER 2: the mender: heights, calls, the solvers by themselves ===== -/
section Up
variable {w : rhW} {Y : rhY} {h : Nat} {pc pc' : Nat} {L L' : rhL} {S S' : List rhA} {M M' : rhM}
theorem rhLf.up {A : Nat → rhL → List rhA → rhM → Prop} {B : Int → rhM → Prop} (k : Nat) (H : rhLf w Y h pc L S M A B) : rhLf w Y (h + k) pc L S M A B := by
  have e : ∀ n : Nat, n + (h + k) = (n + k) + h := fun n => by omega
  rcases H with ⟨p, l, s, m, a, b⟩ | ⟨r, m, a, b⟩
  · exact .inl ⟨p, l, s, m, a, fun n Q K => by rw [e n] at K ⊢; exact b (n + k) Q K⟩
  · exact .inr ⟨r, m, a, fun n Q K => by rw [e n]; exact b (n + k) Q K⟩
theorem rh1.up {k : Nat} {P : Int → rhM → Prop} (H : rhLf w Y h pc L S M (fun pc L S M => rh1 w Y (h + k) pc L S M P) P) : rh1 w Y (h + k) pc L S M P := rh1.of (rhLf.up k H)
theorem eG.up (k : Nat) (H : eG w Y h pc L S M pc' L' S' M') : eG w Y (h + k) pc L S M pc' L' S' M' := fun n Q K => by
  have e : n + (h + k) = (n + k) + h := by omega
  rw [e] at K ⊢
  exact H (n + k) Q K
theorem eC.up {av : List rhA} {r : Int} (k : Nat) (E : eC w Y h av M r M') : eC w Y (h + k) av M r M' := fun n => by
  rw [show n + (h + k) = (n + k) + h by omega]
  exact E (n + k)
end Up
section MdCalls
variable {w : rhW} {h h' : Nat} {L : rhL} {S1 : List rhA} {M M0 : rhM} {r y1 y2 y3 : Int}
theorem jX26_isMended_58 {w : rhW} : ∀ ci ∈ ([23] : List Nat), rh_cvr w YX26_isMended YX26_isMended 58 3 ci := rh_one (rh_cvr.of rfl (Or.inl q3001) kX26_isMended)
theorem w_im6 (hw : rh_hs w) (hl : h' < h) (E : eC w YX26_isSolved h' [(2, 213), (0, y1)] M r M0) (hw1 : rh_wd S1 ≤ 8) : eS w YX26_isMended h 6 L ((0, y1) :: (2, 213) :: S1) M 9 L ((0, r) :: S1) M0 := by
  have hd : decode (ry_c YX26_isMended) 6 = .ok (.invokevirtual 54, 3) := (tdX26_isMended 6).resolve_right (by decide +kernel) ▸ (by decide +kernel : rh_dk dtX26_isMended 6 = .ok (.invokevirtual 54, 3))
  exact fun _ _ K => eA.cv (jX26_isMended_54 23 (by decide)) (rh_obl hw 213 (by decide +kernel)) hl hd rfl hw1 rfl E K
theorem w_im64 (hw : rh_hs w) (hl : h' < h) (E : eC w YX26_isMended h' [(2, 213), (0, y1), (0, y2), (0, y3)] M r M0) (hw1 : rh_wd S1 ≤ 8) : eS w YX26_isMended h 64 L ((0, y3) :: (0, y2) :: (0, y1) :: (2, 213) :: S1) M 67 L ((0, r) :: S1) M0 := by
  have hd : decode (ry_c YX26_isMended) 64 = .ok (.invokevirtual 58, 3) := (tdX26_isMended 64).resolve_right (by decide +kernel) ▸ (by decide +kernel : rh_dk dtX26_isMended 64 = .ok (.invokevirtual 58, 3))
  exact fun _ _ K => eA.cv (jX26_isMended_58 23 (by decide)) (rh_obl hw 213 (by decide +kernel)) hl hd rfl hw1 rfl E K
theorem w_md51 (hw : rh_hs w) (hl : h' < h) (E : eC w YX26_sumUp h' [(2, 213), (0, y1)] M r M0) (hw1 : rh_wd S1 ≤ 8) : eS w YX26_mend h 51 L ((0, y1) :: (2, 213) :: S1) M 54 L S1 M0 := by
  have hd : decode (ry_c YX26_mend) 51 = .ok (.invokevirtual 65, 3) := (tdX26_mend 51).resolve_right (by decide +kernel) ▸ (by decide +kernel : rh_dk dtX26_mend 51 = .ok (.invokevirtual 65, 3))
  exact fun _ _ K => eA.cv (jX26_mend_65 23 (by decide)) (rh_obl hw 213 (by decide +kernel)) hl hd rfl hw1 rfl E K
theorem w_md80 (hw : rh_hs w) (hl : h' < h) (E : eC w YX26_isMended h' [(2, 213), (0, y1), (0, y2), (0, y3)] M r M0) (hw1 : rh_wd S1 ≤ 8) : eS w YX26_mend h 80 L ((0, y3) :: (0, y2) :: (0, y1) :: (2, 213) :: S1) M 83 L ((0, r) :: S1) M0 := by
  have hd : decode (ry_c YX26_mend) 80 = .ok (.invokevirtual 58, 3) := (tdX26_mend 80).resolve_right (by decide +kernel) ▸ (by decide +kernel : rh_dk dtX26_mend 80 = .ok (.invokevirtual 58, 3))
  exact fun _ _ K => eA.cv (jX26_mend_58 23 (by decide)) (rh_obl hw 213 (by decide +kernel)) hl hd rfl hw1 rfl E K
theorem w_cl25 (hw : rh_hs w) (hl : h' < h) (E : eC w YX1_findSigns h' [(2, 0), (0, y1), (0, y2), (0, y3)] M r M0) (hw1 : rh_wd S1 ≤ 8) : eS w YX1_close h 25 L ((0, y3) :: (0, y2) :: (0, y1) :: (2, 0) :: S1) M 28 L ((0, r) :: S1) M0 := by
  have hd : decode (ry_c YX1_close) 25 = .ok (.invokevirtual 1008, 3) := (tdX1_close 25).resolve_right (by decide +kernel) ▸ (by decide +kernel : rh_dk dtX1_close 25 = .ok (.invokevirtual 1008, 3))
  exact fun _ _ K => eA.cv (jX1_close_1008 0 (by decide)) (rh_obl hw 0 (by decide +kernel)) hl hd rfl hw1 rfl E K
theorem w_cl134 (hw : rh_hs w) (hl : h' < h) (E : eC w YX26_mend h' [(2, 213), (0, y1)] M r M0) (hw1 : rh_wd S1 ≤ 8) : eS w YX1_close h 134 L ((0, y1) :: (2, 213) :: S1) M 137 L ((0, r) :: S1) M0 := by
  have hd : decode (ry_c YX1_close) 134 = .ok (.invokevirtual 1011, 3) := (tdX1_close 134).resolve_right (by decide +kernel) ▸ (by decide +kernel : rh_dk dtX1_close 134 = .ok (.invokevirtual 1011, 3))
  exact fun _ _ K => eA.cv (jX1_close_1011 23 (by decide)) (rh_obl hw 213 (by decide +kernel)) hl hd rfl hw1 rfl E K
theorem w_cl139 (hw : rh_hs w) (hl : h' < h) (E : eC w YX1_writeSigns h' [(2, 0)] M r M0) (hw1 : rh_wd S1 ≤ 8) : eS w YX1_close h 139 L ((2, 0) :: S1) M 142 L S1 M0 := by
  have hd : decode (ry_c YX1_close) 139 = .ok (.invokevirtual 1014, 3) := (tdX1_close 139).resolve_right (by decide +kernel) ▸ (by decide +kernel : rh_dk dtX1_close 139 = .ok (.invokevirtual 1014, 3))
  exact fun _ _ K => eA.cv (jX1_close_1014 0 (by decide)) (rh_obl hw 0 (by decide +kernel)) hl hd rfl hw1 rfl E K
theorem w_mn29 (hw : rh_hs w) (hl : h' < h) (E : eC w YX1_findSigns h' [(2, 0), (0, y1), (0, y2), (0, y3)] M r M0) (hw1 : rh_wd S1 ≤ 8) : eS w YX1_mend h 29 L ((0, y3) :: (0, y2) :: (0, y1) :: (2, 0) :: S1) M 32 L ((0, r) :: S1) M0 := by
  have hd : decode (ry_c YX1_mend) 29 = .ok (.invokevirtual 1008, 3) := (tdX1_mend 29).resolve_right (by decide +kernel) ▸ (by decide +kernel : rh_dk dtX1_mend 29 = .ok (.invokevirtual 1008, 3))
  exact fun _ _ K => eA.cv (jX1_mend_1008 0 (by decide)) (rh_obl hw 0 (by decide +kernel)) hl hd rfl hw1 rfl E K
theorem w_mn93 (hw : rh_hs w) (hl : h' < h) (E : eC w YX26_mend h' [(2, 213), (0, y1)] M r M0) (hw1 : rh_wd S1 ≤ 8) : eS w YX1_mend h 93 L ((0, y1) :: (2, 213) :: S1) M 96 L ((0, r) :: S1) M0 := by
  have hd : decode (ry_c YX1_mend) 93 = .ok (.invokevirtual 1011, 3) := (tdX1_mend 93).resolve_right (by decide +kernel) ▸ (by decide +kernel : rh_dk dtX1_mend 93 = .ok (.invokevirtual 1011, 3))
  exact fun _ _ K => eA.cv (jX1_mend_1011 23 (by decide)) (rh_obl hw 213 (by decide +kernel)) hl hd rfl hw1 rfl E K
theorem w_mn103 (hw : rh_hs w) (hl : h' < h) (E : eC w YX1_writeSigns h' [(2, 0)] M r M0) (hw1 : rh_wd S1 ≤ 8) : eS w YX1_mend h 103 L ((2, 0) :: S1) M 106 L S1 M0 := by
  have hd : decode (ry_c YX1_mend) 103 = .ok (.invokevirtual 1014, 3) := (tdX1_mend 103).resolve_right (by decide +kernel) ▸ (by decide +kernel : rh_dk dtX1_mend 103 = .ok (.invokevirtual 1014, 3))
  exact fun _ _ K => eA.cv (jX1_mend_1014 0 (by decide)) (rh_obl hw 0 (by decide +kernel)) hl hd rfl hw1 rfl E K
end MdCalls
section Unary
variable {wh wm : rhW}
theorem s_h (hh : rh_hs wh) (hm : rh_ms wm) {A : rhM} {n sz : Int} {m : Nat} {z : Int → Int} (R : Rmn A) (hm8 : m ≤ 8) (hn : 1 ≤ n ∧ n ≤ 8) (hmn : (m : Int) ≤ n) (hz : A 213 3 = sz) (hz2 : 0 ≤ sz ∧ sz ≤ 15) (h6 : A 213 6 = m) (hp : ∀ c : Int, 0 ≤ c → c < m → 0 ≤ A 217 c ∧ A 217 c < sz) (hd : ∀ a b : Int, 0 ≤ a → a < m → 0 ≤ b → b < m → A 217 a = A 217 b → a = b) (hzr : ∀ i, 0 ≤ i → i < sz → R16 (z i)) (hsum : ∀ e, 0 ≤ e → e < n → A 218 e = msum z sz (e + 1) sz.toNat) :
    ∃ v A', eC wh YX26_isSolved 2 [(2, 213), (0, n)] A v A' ∧ ((v = 0 ∧ n ≠ m ∧ ∀ W, Off W z (A 217) sz m → ¬ Rgt W sz n) ∨ (v = 1 ∧ ∃ W, Off W z (A 217) sz m ∧ Rgt W sz n ∧ ∀ c : Int, 0 ≤ c → c < m → A' 220 c = rh_xor (z (A 217 c)) (W (A 217 c)))) ∧ frx (fun c _ => c = 219 ∨ c = 220) A A' := by
  obtain ⟨B, hB⟩ : ∃ B : rhM, B = fun c j => if c = 176 then A 217 j else if c = 174 then z j else 0 := ⟨_, rfl⟩
  have b1 : B 176 = A 217 := by
    rw [hB]; funext j
    show (if (176 : Int) = 176 then A 217 j else if (176 : Int) = 174 then z j else 0) = A 217 j
    rw [if_pos rfl]
  have b2 : ∀ j, B 174 j = z j := fun j => by
    rw [hB]
    show (if (174 : Int) = 176 then A 217 j else if (174 : Int) = 174 then z j else 0) = z j
    rw [if_neg (by decide), if_pos rfl]
  have b3 : ∀ j, B 175 j = 0 := fun j => by
    rw [hB]
    show (if (175 : Int) = 176 then A 217 j else if (175 : Int) = 174 then z j else 0) = 0
    rw [if_neg (by decide), if_neg (by decide)]
  obtain ⟨v, A', B', E1, -, cs, f1, -⟩ := t_solve hh hm (A := A) (B := B) (z := z) R hm8 hn hmn hz hz2 h6 (fun c c0 c1 => by rw [b1]; exact ⟨rfl, hp c c0 c1⟩) (by rw [b1]; exact hd) hzr hsum (fun i _ _ _ => b2 i) (fun e c _ _ _ _ => by rw [b3]; exact r16_0)
  rw [b1] at cs
  refine ⟨v, A', E1, ?_, f1⟩
  rcases cs with ⟨c1, c2, c3⟩ | ⟨c1, ⟨W, w1, w2, w3⟩, c3⟩
  · exact .inl ⟨c1, c2, c3⟩
  · refine .inr ⟨c1, W, w1, w2, fun c c0 c1 => ?_⟩
    obtain ⟨p1, p2⟩ := hp c c0 c1
    have zr := hzr _ p1 p2
    obtain ⟨q1, q2⟩ := c3 c c0 c1
    rw [← w3 c c0 c1, q1, ← xor_as zr zr q2, (xor_0 zr).2.2, (xor_0 q2).1]
theorem s_m (hh : rh_hs wh) (hm : rh_ms wm) {A0 B : rhM} {n sz : Int} {m : Nat} {z : Int → Int} (R : Rmn A0) (hm8 : m ≤ 8) (hn : 1 ≤ n ∧ n ≤ 8) (hmn : (m : Int) ≤ n) (hz2 : 0 ≤ sz ∧ sz ≤ 15) (hp : ∀ c : Int, 0 ≤ c → c < m → 0 ≤ B 176 c ∧ B 176 c < sz) (hd : ∀ a b : Int, 0 ≤ a → a < m → 0 ≤ b → b < m → B 176 a = B 176 b → a = b) (hzr : ∀ i, 0 ≤ i → i < sz → R16 (z i)) (hsym : ∀ i, 0 ≤ i → i < sz → (¬ ∃ c, (0 ≤ c ∧ c < (m : Int)) ∧ B 176 c = i) → B 174 i = z i) (h175 : ∀ j, 0 ≤ j → j < 72 → R16 (B 175 j)) :
    ∃ v B', eC wm YX32_solvePlaces 3 [(2, 0), (0, sz), (0, n), (0, (m : Int))] B v B' ∧ ((v = 0 ∧ n ≠ m ∧ ∀ W, Off W z (B 176) sz m → ¬ Rgt W sz n) ∨ (v = 1 ∧ ∃ W, Off W z (B 176) sz m ∧ Rgt W sz n ∧ ∀ c : Int, 0 ≤ c → c < m → B' 177 c = W (B 176 c))) ∧ frx (fun c _ => c = 174 ∨ c = 175 ∨ c = 177) B B' ∧ (∀ i, B' 174 i = wip0 (B 174) (B 176) m i) ∧ (∀ j, 0 ≤ j → j < 72 → R16 (B' 175 j)) := by
  obtain ⟨A, hA⟩ : ∃ A : rhM, A = fun c j => if c = 214 ∨ c = 215 then A0 c j else if c = 213 then (if j = 3 then sz else (m : Int)) else if c = 217 then B 176 j else msum z sz (j + 1) sz.toNat := ⟨_, rfl⟩
  have a1 : ∀ j, A 214 j = A0 214 j := fun j => by rw [hA]; exact if_pos (.inl rfl)
  have a2 : ∀ j, A 215 j = A0 215 j := fun j => by rw [hA]; exact if_pos (.inr rfl)
  have a3 : A 213 3 = sz := by
    rw [hA]
    show (if (213 : Int) = 214 ∨ (213 : Int) = 215 then A0 213 3 else if (213 : Int) = 213 then (if (3 : Int) = 3 then sz else (m : Int)) else if (213 : Int) = 217 then B 176 3 else msum z sz (3 + 1) sz.toNat) = sz
    rw [if_neg (by decide), if_pos rfl, if_pos rfl]
  have a4 : A 213 6 = m := by
    rw [hA]
    show (if (213 : Int) = 214 ∨ (213 : Int) = 215 then A0 213 6 else if (213 : Int) = 213 then (if (6 : Int) = 3 then sz else (m : Int)) else if (213 : Int) = 217 then B 176 6 else msum z sz (6 + 1) sz.toNat) = m
    rw [if_neg (by decide), if_pos rfl, if_neg (by decide)]
  have a5 : ∀ j, A 217 j = B 176 j := fun j => by
    rw [hA]
    show (if (217 : Int) = 214 ∨ (217 : Int) = 215 then A0 217 j else if (217 : Int) = 213 then (if j = 3 then sz else (m : Int)) else if (217 : Int) = 217 then B 176 j else msum z sz (j + 1) sz.toNat) = _
    rw [if_neg (by decide), if_neg (by decide), if_pos rfl]
  have a6 : ∀ j, A 218 j = msum z sz (j + 1) sz.toNat := fun j => by
    rw [hA]
    show (if (218 : Int) = 214 ∨ (218 : Int) = 215 then A0 218 j else if (218 : Int) = 213 then (if j = 3 then sz else (m : Int)) else if (218 : Int) = 217 then B 176 j else msum z sz (j + 1) sz.toNat) = _
    rw [if_neg (by decide), if_neg (by decide), if_neg (by decide)]
  have RA : Rmn A := ⟨fun k k0 k1 => by rw [a1]; exact R.1 k k0 k1, fun k k0 k1 => by rw [a2]; exact R.2 k k0 k1⟩
  obtain ⟨v, A', B', -, E2, cs, -, f2, w4, r5⟩ := t_solve hh hm (A := A) (B := B) (z := z) RA hm8 hn hmn a3 hz2 a4 (fun c c0 c1 => ⟨a5 c, hp c c0 c1⟩) hd hzr (fun e _ _ => a6 e) hsym (fun e c e0 e1 c0 c1 => h175 _ (by omega) (by omega))
  refine ⟨v, B', E2, ?_, f2.w (fun c j h => by omega), w4, fun j j0 j1 => ?_⟩
  · rcases cs with ⟨c1, c2, c3⟩ | ⟨c1, c2, -⟩
    · exact .inl ⟨c1, c2, c3⟩
    · exact .inr ⟨c1, c2⟩
  · by_cases q : j < 9 * n
    · have := r5 (j / 9) (j % 9) (by omega) (by omega) (by omega) (by omega)
      rwa [show 9 * (j / 9) + j % 9 = j by omega] at this
    · rw [f2 175 j (by omega)]
      exact h175 j j0 j1
end Unary
