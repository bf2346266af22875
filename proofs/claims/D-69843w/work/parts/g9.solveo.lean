/-! ===== LAYER 2: isSolved against solvePlaces: the pair ===== -/
section SolveO
variable {wh wm : rhW}
theorem t_solve (hh : rh_hs wh) (hm : rh_ms wm) {A B : rhM} {n sz : Int} {m : Nat} {z : Int → Int} (R : Rmn A) (hm8 : m ≤ 8) (hn : 1 ≤ n ∧ n ≤ 8) (hmn : (m : Int) ≤ n) (hz : A 213 3 = sz) (hz2 : 0 ≤ sz ∧ sz ≤ 15) (h6 : A 213 6 = m) (hpl : ∀ c : Int, 0 ≤ c → c < m → A 217 c = B 176 c ∧ 0 ≤ B 176 c ∧ B 176 c < sz) (hd : ∀ a b : Int, 0 ≤ a → a < m → 0 ≤ b → b < m → B 176 a = B 176 b → a = b) (hzr : ∀ i, 0 ≤ i → i < sz → R16 (z i)) (hsum : ∀ e, 0 ≤ e → e < n → A 218 e = msum z sz (e + 1) sz.toNat) (hsym : ∀ i, 0 ≤ i → i < sz → (¬ ∃ c, (0 ≤ c ∧ c < (m : Int)) ∧ B 176 c = i) → B 174 i = z i) (h175 : ∀ e c, 0 ≤ e → e < n → 0 ≤ c → c < 9 → R16 (B 175 (9 * e + c))) :
    ∃ v A' B', eC wh YX26_isSolved 2 [(2, 213), (0, n)] A v A' ∧ eC wm YX32_solvePlaces 3 [(2, 0), (0, sz), (0, n), (0, (m : Int))] B v B' ∧ ((v = 0 ∧ n ≠ m ∧ ∀ W, Off W z (B 176) sz m → ¬ Rgt W sz n) ∨ (v = 1 ∧ (∃ W, Off W z (B 176) sz m ∧ Rgt W sz n ∧ ∀ c : Int, 0 ≤ c → c < m → B' 177 c = W (B 176 c)) ∧ ∀ c : Int, 0 ≤ c → c < m → B' 177 c = rh_xor (z (B 176 c)) (A' 220 c) ∧ R16 (A' 220 c))) ∧ frx (fun c _ => c = 219 ∨ c = 220) A A' ∧ frx (fun c j => c = 174 ∨ (c = 175 ∧ j < 9 * n) ∨ c = 177) B B' ∧ (∀ i, B' 174 i = wip0 (B 174) (B 176) m i) ∧ (∀ e c, 0 ≤ e → e < n → 0 ≤ c → c < 9 → R16 (B' 175 (9 * e + c))) := by
  have hp : ∀ c : Int, 0 ≤ c → c < m → 0 ≤ B 176 c ∧ B 176 c < sz := fun c c0 c1 => (hpl c c0 c1).2
  obtain ⟨B1, EB1, z1, gB1⟩ := m_zero hm (n := n) hm8 hz2 hp m 0 B (by omega) (by decide) (fun i => (rh_if_f (fun ⟨c, c1, _⟩ => by omega)).symm) frx.rf
  have b176 : ∀ c, B1 176 c = B 176 c := fun c => gB1 176 c (by omega)
  obtain ⟨B2, EB2, M2, gB2⟩ := m_build hm (B := B1) (n := n) hm8 hn hz2 (fun c c0 c1 => by rw [b176]; exact hp c c0 c1)
  obtain ⟨A2, EA2, MA2, gA2⟩ := h_build hh R hm8 hn hz hz2 h6 (fun c c0 c1 => by rw [(hpl c c0 c1).1]; exact hp c c0 c1)
  have sN : ∀ i : Int, i < ((sz.toNat : Nat) : Int) → i < sz := fun i h => by omega
  have w1 : ∀ i : Int, 0 ≤ i → i < ((sz.toNat : Nat) : Int) → B1 174 i = wip0 z (B 176) m i := fun i i0 i1 => by
    rw [z1 i]
    unfold wip0
    by_cases q : ∃ c, (0 ≤ c ∧ c < (m : Int)) ∧ B 176 c = i
    · rw [rh_if_t q, rh_if_t q]
    · rw [rh_if_f q, rh_if_f q]; exact hsym i i0 (sN i i1) q
  have hzr' : ∀ i : Int, 0 ≤ i → i < ((sz.toNat : Nat) : Int) → R16 (z i) := fun i i0 i1 => hzr i i0 (sN i i1)
  have w2 : ∀ i : Int, 0 ≤ i → i < ((sz.toNat : Nat) : Int) → R16 (B1 174 i) := fun i i0 i1 => by
    rw [w1 i i0 i1]
    unfold wip0
    by_cases q : ∃ c, (0 ≤ c ∧ c < (m : Int)) ∧ B 176 c = i
    · rw [rh_if_t q]; exact r16_0
    · rw [rh_if_f q]; exact hzr' i i0 i1
  obtain ⟨s, hsd⟩ : ∃ s : Int → Int, s = fun c => z (B 176 c) := ⟨_, rfl⟩
  have hs : ∀ c : Int, 0 ≤ c → c < m → R16 (s c) := fun c c0 c1 => by rw [hsd]; exact hzr _ (hp c c0 c1).1 (hp c c0 c1).2
  have S8 : ∀ e, Smx B1 sz m e 8 = msum (B1 174) sz (e + 1) sz.toNat := fun e => if_pos rfl
  have Sc : ∀ e c : Int, c < m → Smx B1 sz m e c = pwr e (sz - 1 - B 176 c) := fun e c c1 => by
    unfold Smx
    rw [if_neg (show ¬ c = 8 by omega), if_pos c1, b176]
  have Hm : ∀ e, Hmx A sz m e m = A 218 e := fun e => if_pos rfl
  have Hc : ∀ e c : Int, 0 ≤ c → c < m → Hmx A sz m e c = pwr e (sz - 1 - B 176 c) := fun e c c0 c1 => by
    unfold Hmx
    rw [if_neg (show ¬ c = (m : Int) by omega), (hpl c c0 c1).1]
  have E0 : Elm (Hmx A sz m) (Smx B1 sz m) s n m 0 := by
    refine ⟨fun e c e0 e1 c0 c1 => ?_, fun e c e0 e1 c0 c1 => ?_, ⟨fun _ => 1, fun e _ _ => ⟨(show (1 : Int) ≤ 1 ∧ (1 : Int) < 16 by decide), fun _ => rfl⟩, fun e c e0 e1 c0 c1 => ?_⟩, fun e c _ _ c0 c1 => by omega, fun c c0 c1 => by omega⟩
    · by_cases q : c = 8
      · rw [q, S8]; exact msum_r _ w2
      · by_cases q2 : c < (m : Int)
        · rw [Sc e c q2]; exact gpw_r _
        · unfold Smx
          rw [if_neg q, if_neg q2, gB1 175 _ (by omega)]
          exact h175 e c e0 e1 c0 c1
    · by_cases q : c = (m : Int)
      · rw [q, Hm, hsum e e0 e1]; exact msum_r _ hzr'
      · rw [Hc e c c0 (by omega)]; exact gpw_r _
    · show hat (Smx B1 sz m) s m e c = gfm 1 (Hmx A sz m e c)
      unfold hat
      by_cases q : c = (m : Int)
      · rw [if_pos q, q, Hm, S8, msum_e (y2 := wip0 z (B 176) m) _ w1, xs_e (r2 := fun c => pwr e (sz - 1 - B 176 c)) m (fun c _ c1 => Sc e c c1), hsd, ← msum_p hzr' m (fun c c0 c1 => ⟨(hp c c0 c1).1, by have := (hp c c0 c1).2; omega⟩) hd, hsum e e0 e1, (gfm_0 (msum_r _ hzr')).2.2.1]
      · have r : R16 (pwr e (sz - 1 - B 176 c)) := gpw_r _
        rw [if_neg q, Sc e c (by omega), Hc e c c0 (by omega), (gfm_0 r).2.2.1]
  obtain ⟨X, Y, ⟨fX, fY⟩, out⟩ := t_elim hh hm (A := A) (B := B1) (s := s) R hm8 hn hmn hs h6 m 0 _ _ A2 B2 (by omega) (by decide) E0 MA2 M2 gA2 gB2
  have SH : ∀ P : Int → rhM → Prop, rh1 wh YX26_isSolved 2 84 [(0, 2, 213), (1, 0, n), (2, 0, m + 1), (3, 0, 0)] [] A2 P → rh1 wh YX26_isSolved 2 0 [(0, 2, 213), (1, 0, n)] [] A P := fun P HP => by
    refine rh1.of (rX26_isSolved_0 hh _ _ ?_)
    rw [h6]
    refine ⟨⟨by omega, by omega⟩, rh1.s EA2 ?_⟩
    refine rh1.of (rX26_isSolved_9 hh _ _ _ _ ?_)
    exact ⟨fun z => by omega, fun _ => HP⟩
  have SM : ∀ P : Int → rhM → Prop, rh1 wm YX32_solvePlaces 3 115 [(0, 2, 0), (2, 0, n), (3, 0, m), (4, 0, 0)] [] B2 P → rh1 wm YX32_solvePlaces 3 0 [(0, 2, 0), (1, 0, sz), (2, 0, n), (3, 0, m)] [] B P := fun P HP => by
    refine rh1.of (rX32_solvePlaces_0 hm _ _ _ _ ?_)
    refine rh1.s EB1 ?_
    refine rh1.of (rX32_solvePlaces_3 hm _ _ _ _ _ ?_)
    refine ⟨fun z => by omega, fun _ => rh1.s EB2 ?_⟩
    refine rh1.of (rX32_solvePlaces_31 hm _ _ _ _ _ ?_)
    exact ⟨fun z => by omega, fun _ => HP⟩
  have FX : frx (fun c _ => c = 219 ∨ c = 220) A X := fX.w (fun c j h => .inl h)
  have FY : frx (fun c j => c = 174 ∨ (c = 175 ∧ j < 9 * n) ∨ c = 177) B Y := (gB1.w (fun c j h => .inl h)).tr (fY.w (fun c j h => .inr (.inl h)))
  have Y174 : ∀ i, Y 174 i = wip0 (B 174) (B 176) m i := fun i => by rw [fY 174 i (by omega)]; exact z1 i
  have kd : ∀ a b : Int, 0 ≤ a → a < m → 0 ≤ b → b < m → sz - 1 - B 176 a = sz - 1 - B 176 b → a = b := fun a b a0 a1 b0 b1 h => hd a b a0 a1 b0 b1 (by omega)
  rcases out with ⟨⟨x, x1, ⟨c, c1, c2⟩, x3⟩, -, -⟩ | ⟨H', S', E', MX', MY', F1, F2, SO⟩
  · have v0 := vand m n.toNat x (fun c => sz - 1 - B 176 c) (by omega) x1 (fun c c0 c1 => by have := hp c c0 c1; omega) kd (fun e e0 e1 => (xs_e m (fun c _ c1 => (Sc e c c1).symm)).trans (x3 e e0 (by omega))) c (by omega) (by omega)
    rw [c2] at v0
    exact absurd v0 (by decide)
  have x6 : X 213 6 = m := by rw [fX 213 6 (by omega)]; exact h6
  have RX : Rmn X := ⟨fun i i0 i1 => by rw [fX 214 i (by omega)]; exact R.1 i i0 i1, fun i i0 i1 => by rw [fX 215 i (by omega)]; exact R.2 i i0 i1⟩
  have fin := E'.fin hm8 hmn hs
  have Y175 : ∀ e c, 0 ≤ e → e < n → 0 ≤ c → c < 9 → R16 (Y 175 (9 * e + c)) := fun e c e0 e1 c0 c1 => by rw [MY' e c e0 e1 c0 c1]; exact E'.1 e c e0 e1 c0 c1
  have SH2 : ∀ P : Int → rhM → Prop, rh1 wh YX26_isSolved 2 212 [(0, 2, 213), (1, 0, n), (2, 0, m + 1), (3, 0, m)] [] X P → rh1 wh YX26_isSolved 2 0 [(0, 2, 213), (1, 0, n)] [] A P := fun P HP => SH P (rh1.s F1 (by
    refine rh1.of (rX26_isSolved_84 hh _ _ _ _ ?_)
    rw [x6]
    exact ⟨fun z => by omega, fun _ => HP⟩))
  have SM2 : ∀ P : Int → rhM → Prop, rh1 wm YX32_solvePlaces 3 179 [(0, 2, 0), (2, 0, n), (3, 0, m), (4, 0, m)] [] Y P → rh1 wm YX32_solvePlaces 3 0 [(0, 2, 0), (1, 0, sz), (2, 0, n), (3, 0, m)] [] B P := fun P HP => SM P (rh1.s F2 (by
    refine rh1.of (rX32_solvePlaces_115 hm _ _ _ _ ?_)
    exact ⟨fun z => by omega, fun _ => HP⟩))
  have sys : ∀ W, Off W z (B 176) sz m → (Rgt W sz n ↔ Sol (fun c => W (B 176 c)) (Smx B1 sz m) n m) := fun W hW => by
    rw [hW.rgt hp hd]
    have e1 : ∀ e : Int, xs (fun c => W (B 176 c)) (Smx B1 sz m e) m = xs (fun c => W (B 176 c)) (fun c => pwr e (sz - 1 - B 176 c)) m := fun e => xs_e m (fun c _ c1 => Sc e c c1)
    have e2 : ∀ e : Int, Smx B1 sz m e 8 = msum (wip0 z (B 176) m) sz (e + 1) sz.toNat := fun e => by rw [S8, msum_e (y2 := wip0 z (B 176) m) _ w1]
    constructor
    · exact fun h e e0 e1' => by rw [e1, e2]; exact h e e0 e1'
    · exact fun h e e0 e1' => by rw [← e1, ← e2]; exact h e e0 e1'
  rcases t_rest hh hm hm8 hn x6 MX' MY' fin.1 (n - m).toNat m (by omega) (Int.le_refl _) with ⟨⟨e9, q0, q01, q02⟩, q1, q2⟩ | ⟨G0, G1, G2⟩
  · refine ⟨0, X, Y, eC.of1 (rC1.of (by decide) (LE0 rfl) (SH2 _ (q1 _ ⟨rfl, rfl⟩))), eC.of1 (rC1.of (by decide) (LE0 rfl) (SM2 _ (q2 _ ⟨rfl, rfl⟩))), .inl ⟨rfl, by omega, fun W hW r => ?_⟩, FX, FY, Y174, Y175⟩
    have hy : ∀ c : Int, 0 ≤ c → c < m → R16 ((fun c => W (B 176 c)) c) := fun c c0 c1 => hW.1 _ (hp c c0 c1).1 (hp c c0 c1).2
    have s0 := ((E'.sol hm8 hmn hy).mp ((SO _ hy).mp ((sys W hW).mp r))).2 e9 q0 q01
    rw [fin.1 e9 q0 q01] at s0
    exact q02 s0
  obtain ⟨X', V1, v1, gX'⟩ := h_vals hh RX hm8 hn hmn x6 MX' E'.2.1 (fun c c0 c1 => (E'.2.2.2.2 c c0 c1).1) m 0 X (by omega) (by decide) (fun c c0 c1 => by omega) frx.rf
  obtain ⟨Y', V2, v2, gY'⟩ := m_vals hm hm8 hmn MY' m 0 Y (by omega) (by decide) (fun c c0 c1 => by omega) frx.rf
  refine ⟨1, X', Y', eC.of1 (rC1.of (by decide) (LE0 rfl) (SH2 _ (rh1.s G1 ?_))), eC.of1 (rC1.of (by decide) (LE0 rfl) (SM2 _ (rh1.s G2 ?_))), .inr ⟨rfl, ?_, fun c c0 c1 => ?_⟩, FX.tr (gX'.w (fun c j h => .inr h)), FY.tr (gY'.w (fun c j h => .inr (.inr h))), fun i => by rw [gY' 174 i (by omega)]; exact Y174 i, fun e c e0 e1 c0 c1 => by rw [gY' 175 _ (by omega)]; exact Y175 e c e0 e1 c0 c1⟩
  · refine rh1.of (rX26_isSolved_212 hh _ _ _ _ ?_)
    exact ⟨fun z => by omega, fun _ => V1 _ ⟨rfl, rfl⟩⟩
  · refine rh1.of (rX32_solvePlaces_179 hm _ _ _ _ ?_)
    exact ⟨fun z => by omega, fun _ => V2 _ ⟨rfl, rfl⟩⟩
  · have s16 : ∀ c : Int, 0 ≤ c → c < m → R16 (S' c 8) := fun c c0 c1 => E'.1 c 8 c0 (by omega) (by decide) (by decide)
    have hO : Off (ins z (B 176) (fun c => S' c 8) m) z (B 176) sz m := by
      refine ⟨fun i i0 i1 => ?_, fun i i0 i1 q => ins_o m q⟩
      by_cases q : ∃ c, (0 ≤ c ∧ c < (m : Int)) ∧ B 176 c = i
      · obtain ⟨c, c1, c2⟩ := q
        rw [← c2, ins_p m hd c c1.1 c1.2]
        exact s16 c c1.1 c1.2
      · rw [ins_o m q]; exact hzr i i0 i1
    have hy : ∀ c : Int, 0 ≤ c → c < m → R16 ((fun c => ins z (B 176) (fun c => S' c 8) m (B 176 c)) c) := fun c c0 c1 => hO.1 _ (hp c c0 c1).1 (hp c c0 c1).2
    refine ⟨_, hO, (sys _ hO).mpr ((SO _ hy).mpr ((E'.sol hm8 hmn hy).mpr ⟨fun e e0 e1 => ins_p m hd e e0 e1, fun e e0 e1 => by rw [fin.1 e e0 e1]; exact G0 e e0 e1⟩)), fun c c0 c1 => ?_⟩
    rw [v2 c c0 c1, ins_p m hd c c0 c1]
  · have hcc := E'.2.1 c c c0 (by omega) c0 (by omega)
    have hc1 : 1 ≤ H' c c ∧ H' c c < 16 := by have := (E'.2.2.2.2 c c0 c1).1; unfold R16 at hcc; omega
    have gi := (giv_e hc1).1
    rw [v1 c c0 c1, v2 c c0 c1, fin.2 c c0 c1, hsd]
    exact ⟨rfl, gfm_r (E'.2.1 c m c0 (by omega) (by omega) (Int.le_refl _)) ⟨by omega, by omega⟩⟩
end SolveO
