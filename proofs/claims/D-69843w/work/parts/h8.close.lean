/-! ===== LAYER 2: close ===== -/
section Close
variable {wh wm : rhW}
def Fcs (c j : Int) : Prop := Fsg c j ∨ Fmd c j ∨ Fou c j ∨ (c = 1 ∧ j = 2)
def Gcs (c j : Int) : Prop := (c = 0 ∧ (j = 0 ∨ j = 2 ∨ j = 4)) ∨ c = 2 ∨ (174 ≤ c ∧ c ≤ 179)
def R175 (B : rhM) : Prop := ∀ j, 0 ≤ j → j < 72 → R16 (B 175 j)
theorem m_endF {A B : rhM} {n : Int} (h : frx Fou A B) : frx Fou A (m_end B n) := by
  unfold m_end
  exact (h.cpy (fun j _ _ => by unfold Fou; omega)).st (by unfold Fou; omega)
theorem m_clsT (hm : rh_ms wm) {c s n' : Int} {B : rhM} (h2 : B 0 2 = s) (hs : 0 ≤ s ∧ s ≤ 13) (hle : ∀ i, 0 ≤ i → i < s → B 1 i ≤ 15) : ∀ (u : Nat) (k : Int) (X : rhM), k + u = s → 0 ≤ k → (∀ i, 0 ≤ i → i < k → X 174 i = B 1 i) → frx (fun c _ => c = 174) B X → ∃ X', eS wm YX32_close 4 61 [(0, 2, 0), (1, 0, c), (2, 0, n'), (3, 0, k)] [] X 106 [(0, 2, 0), (1, 0, c), (2, 0, n'), (3, 0, 0)] [] X' ∧ (∀ i, 0 ≤ i → i < s → X' 174 i = B 1 i) ∧ frx (fun c _ => c = 174) B X' := by
  intro u
  induction u with
  | zero =>
    intro k X hk k0 h g
    have ek : k = s := by omega
    rw [ek] at h ⊢
    refine ⟨X, eS.of (fun P HP => ?_), h, g⟩
    refine rh1.of (rX32_close_61 hm _ _ _ _ ?_)
    rw [g 0 2 (by omega), h2]
    exact ⟨fun y => by omega, fun _ => HP⟩
  | succ u ih =>
    intro k X hk k0 h g
    have e1 : X 1 k = B 1 k := g 1 k (by omega)
    have l1 := hle k k0 (by omega)
    obtain ⟨X', E, r⟩ := ih (k + 1) (rh_set X 174 k (B 1 k)) (by omega) (by omega) (fun i i0 i1 => by
      by_cases y : i = k
      · rw [y, rh_set_s]
      · rw [rh_set_j y]; exact h i i0 (by omega)) (g.st rfl)
    refine ⟨X', eS.of (fun P HP => ?_), r⟩
    refine rh1.of (rX32_close_61 hm _ _ _ _ ?_)
    rw [g 0 2 (by omega), h2, e1]
    exact ⟨fun _ => ⟨⟨by omega, by omega⟩, fun y => by omega, fun _ => ⟨⟨by omega, by omega⟩, ⟨by omega, by omega⟩, ⟨by omega, by omega⟩, rh1.s E HP⟩⟩, fun y => by omega⟩
theorem m_clsF (hm : rh_ms wm) {c s n' q : Int} {B : rhM} (h2 : B 0 2 = s) (hs : 0 ≤ s ∧ s ≤ 13) (hq : 0 ≤ q ∧ q < s) (hb : 15 < B 1 q) (hle : ∀ i, 0 ≤ i → i < q → B 1 i ≤ 15) : ∀ (u : Nat) (k : Int) (X : rhM), k + u = q → 0 ≤ k → frx (fun c _ => c = 174) B X → ∃ X', (∀ P : Int → rhM → Prop, P (-1000 - q) X' → rh1 wm YX32_close 4 61 [(0, 2, 0), (1, 0, c), (2, 0, n'), (3, 0, k)] [] X P) ∧ frx (fun c j => c = 174 ∨ (c = 0 ∧ j = 2)) B X' ∧ X' 0 2 = 0 := by
  intro u
  induction u with
  | zero =>
    intro k X hk k0 g
    have ek : k = q := by omega
    rw [ek]
    refine ⟨rh_set X 0 2 0, fun P HP => ?_, (g.w (fun c j h => .inl h)).st (.inr ⟨rfl, rfl⟩), rh_set_s _ _ _ _⟩
    refine rh1.of (rX32_close_61 hm _ _ _ _ ?_)
    rw [g 0 2 (by omega), h2, g 1 q (by omega)]
    exact ⟨fun _ => ⟨⟨by omega, by omega⟩, fun _ => ⟨⟨by omega, by omega⟩, HP⟩, fun y => absurd hb y⟩, fun y => by omega⟩
  | succ u ih =>
    intro k X hk k0 g
    have l1 := hle k k0 (by omega)
    obtain ⟨X', E, r⟩ := ih (k + 1) (rh_set X 174 k (B 1 k)) (by omega) (by omega) (g.st rfl)
    refine ⟨X', fun P HP => ?_, r⟩
    refine rh1.of (rX32_close_61 hm _ _ _ _ ?_)
    rw [g 0 2 (by omega), h2, g 1 k (by omega)]
    exact ⟨fun _ => ⟨⟨by omega, by omega⟩, fun y => by omega, fun _ => ⟨⟨by omega, by omega⟩, ⟨by omega, by omega⟩, ⟨by omega, by omega⟩, E P HP⟩⟩, fun y => by omega⟩
theorem m_clsU (hm : rh_ms wm) {c s n' : Int} {B : rhM} (h2 : B 0 2 = s) (hs : 0 ≤ s ∧ s ≤ 13) (hc : c ≤ 8) : ∀ (u : Nat) (k : Int) (X : rhM), k + u = c → 0 ≤ k → (∀ i, 0 ≤ i → i < k → X 176 i = s + i) → frx (fun c _ => c = 176) B X → ∃ X', eS wm YX32_close 4 106 [(0, 2, 0), (1, 0, c), (2, 0, n'), (3, 0, k)] [] X 106 [(0, 2, 0), (1, 0, c), (2, 0, n'), (3, 0, c)] [] X' ∧ (∀ i, 0 ≤ i → i < c → X' 176 i = s + i) ∧ frx (fun c _ => c = 176) B X' := by
  intro u
  induction u with
  | zero =>
    intro k X hk k0 h g
    have ek : k = c := by omega
    rw [ek] at h ⊢
    exact ⟨X, eS.rf, h, g⟩
  | succ u ih =>
    intro k X hk k0 h g
    obtain ⟨X', E, r⟩ := ih (k + 1) (rh_set X 176 k (s + k)) (by omega) (by omega) (fun i i0 i1 => by
      by_cases y : i = k
      · rw [y, rh_set_s]
      · rw [rh_set_j y]; exact h i i0 (by omega)) (g.st rfl)
    refine ⟨X', eS.of (fun P HP => ?_), r⟩
    refine rh1.of (rX32_close_106 hm _ _ _ _ ?_)
    rw [g 0 2 (by omega), h2]
    exact ⟨fun _ => ⟨⟨by omega, by omega⟩, ⟨by omega, by omega⟩, ⟨by omega, by omega⟩, rh1.s E HP⟩, fun y => by omega⟩
theorem m_clsP (hm : rh_ms wm) {c s n' : Int} {B : rhM} (hs : 0 ≤ s ∧ s + c ≤ 15) (hc : c ≤ 8) (h6 : ∀ i, 0 ≤ i → i < c → B 176 i = s + i) : ∀ (u : Nat) (k : Int) (X : rhM), k + u = c → 0 ≤ k → (∀ i, 0 ≤ i → i < k → X 174 (s + i) = B 177 i) → frx (fun d j => d = 174 ∧ s ≤ j) B X → ∃ X', eS wm YX32_close 4 139 [(0, 2, 0), (1, 0, c), (2, 0, n'), (3, 0, k)] [] X 139 [(0, 2, 0), (1, 0, c), (2, 0, n'), (3, 0, c)] [] X' ∧ (∀ i, 0 ≤ i → i < c → X' 174 (s + i) = B 177 i) ∧ frx (fun d j => d = 174 ∧ s ≤ j) B X' := by
  intro u
  induction u with
  | zero =>
    intro k X hk k0 h g
    have ek : k = c := by omega
    rw [ek] at h ⊢
    exact ⟨X, eS.rf, h, g⟩
  | succ u ih =>
    intro k X hk k0 h g
    obtain ⟨X', E, r⟩ := ih (k + 1) (rh_set X 174 (s + k) (B 177 k)) (by omega) (by omega) (fun i i0 i1 => by
      by_cases y : i = k
      · rw [y, rh_set_s]
      · rw [rh_set_j (by omega)]; exact h i i0 (by omega)) (g.st ⟨rfl, by omega⟩)
    refine ⟨X', eS.of (fun P HP => ?_), r⟩
    refine rh1.of (rX32_close_139 hm _ _ _ _ ?_)
    rw [g 176 k (by omega), h6 k k0 (by omega), g 177 k (by omega)]
    exact ⟨fun _ => ⟨⟨by omega, by omega⟩, ⟨by omega, by omega⟩, ⟨by omega, by omega⟩, ⟨by omega, by omega⟩, rh1.s E HP⟩, fun y => by omega⟩
theorem m_clsO (hm : rh_ms wm) {n' : Int} {B : rhM} (hn : 0 ≤ n' ∧ n' ≤ 15) : ∀ (u : Nat) (k : Int) (X : rhM), k + u = n' → 0 ≤ k → (∀ i, 0 ≤ i → i < k → X 2 i = B 174 i) → frx (fun d _ => d = 2) B X → ∃ X', eS wm YX32_close 4 174 [(0, 2, 0), (2, 0, n'), (3, 0, k)] [] X 174 [(0, 2, 0), (2, 0, n'), (3, 0, n')] [] X' ∧ (∀ i, 0 ≤ i → i < n' → X' 2 i = B 174 i) ∧ frx (fun d _ => d = 2) B X' := by
  intro u
  induction u with
  | zero =>
    intro k X hk k0 h g
    have ek : k = n' := by omega
    rw [ek] at h ⊢
    exact ⟨X, eS.rf, h, g⟩
  | succ u ih =>
    intro k X hk k0 h g
    obtain ⟨X', E, r⟩ := ih (k + 1) (rh_set X 2 k (B 174 k)) (by omega) (by omega) (fun i i0 i1 => by
      by_cases y : i = k
      · rw [y, rh_set_s]
      · rw [rh_set_j y]; exact h i i0 (by omega)) (g.st rfl)
    refine ⟨X', eS.of (fun P HP => ?_), r⟩
    refine rh1.of (rX32_close_174 hm _ _ _ ?_)
    rw [g 174 k (by omega)]
    exact ⟨fun _ => ⟨⟨by omega, by omega⟩, ⟨by omega, by omega⟩, ⟨by omega, by omega⟩, rh1.s E HP⟩, fun y => by omega⟩
theorem h_clsB (hh : rh_hs wh) {c s : Int} {A : rhM} (h3 : A 213 3 = s) (hs : 0 ≤ s ∧ s + c ≤ 15) (hc : 0 ≤ c) : ∀ (u : Nat) (k : Int) (X : rhM), k + u = c → 0 ≤ k → (∀ i, 0 ≤ i → i < k → X 216 (s + i) = 16) → frx (fun d j => d = 216 ∧ s ≤ j) A X → ∃ X', eS wh YX1_close (5 + 9) 86 [(0, 2, 0), (1, 0, c), (2, 0, k)] [] X 86 [(0, 2, 0), (1, 0, c), (2, 0, c)] [] X' ∧ (∀ i, 0 ≤ i → i < c → X' 216 (s + i) = 16) ∧ frx (fun d j => d = 216 ∧ s ≤ j) A X' := by
  intro u
  induction u with
  | zero =>
    intro k X hk k0 h g
    have ek : k = c := by omega
    rw [ek] at h ⊢
    exact ⟨X, eS.rf, h, g⟩
  | succ u ih =>
    intro k X hk k0 h g
    obtain ⟨X', E, r⟩ := ih (k + 1) (rh_set X 216 (s + k) 16) (by omega) (by omega) (fun i i0 i1 => by
      by_cases y : i = k
      · rw [y, rh_set_s]
      · rw [rh_set_j (by omega)]; exact h i i0 (by omega)) (g.st ⟨rfl, by omega⟩)
    refine ⟨X', eS.of (fun P HP => ?_), r⟩
    refine rh1.up (rX1_close_86 hh _ _ _ ?_)
    rw [g 213 3 (by omega), h3]
    exact ⟨fun _ => ⟨⟨by omega, by omega⟩, ⟨by omega, by omega⟩, rh1.s E HP⟩, fun y => by omega⟩
theorem nct_at {w : Int → Int} {s : Nat} (h0 : ∀ i : Int, 0 ≤ i → i < s → w i ≠ 16) : ∀ k : Nat, (∀ i : Int, 0 ≤ i → i < k → w (s + i) = 16) → nct w 16 (s + k) = k
  | 0, _ => nct_0 s h0
  | k + 1, h => by
    rw [show s + (k + 1) = s + k + 1 by omega, nct_w, nct_at h0 k (fun i i0 i1 => h i i0 (by omega))]
    have := h k (by omega) (by omega)
    rw [show ((s + k : Nat) : Int) = (s : Int) + k by omega, if_pos this]
    omega
theorem op_close (hh : rh_hs wh) (hm : rh_ms wm) {Mh Mm : rhM} (T : Rtp Mh Mm) (O : Rou Mh Mm) (R : Rmn Mh) (R5 : R175 Mm) (x1 : Int) : rC2 wh YX1_close (5 + 9) [(2, 0), (0, x1)] Mh wm YX32_close 4 [(2, 0), (0, x1)] Mm (fun r M' r2 M2' => r = r2 ∧ Rtp M' M2' ∧ Rou M' M2' ∧ R175 M2' ∧ frx Fcs Mh M' ∧ frx Gcs Mm M2') := by
  obtain ⟨M0, hM0⟩ : ∃ M0, M0 = rh_set Mm 0 0 0 := ⟨_, rfl⟩
  have g0 : frx Gcs Mm M0 := by rw [hM0]; exact frx.rf.st (by unfold Gcs; omega)
  have T0 : Rtp Mh M0 := by rw [hM0]; exact T.n0
  have m0 : ∀ c j, c ≠ 0 → M0 c j = Mm c j := fun c j h => by rw [hM0]; exact rh_set_a h
  have o4 : M0 0 4 = Mm 0 4 := by rw [hM0]; exact rh_set_j (by decide)
  have O0 : Rou Mh M0 := by
    obtain ⟨q1, q2, q3, q4⟩ := O
    unfold Rou
    rw [o4]
    exact ⟨q1, q2, q3, fun k k0 k1 => by rw [m0 2 k (by decide)]; exact q4 k k0 k1⟩
  have R50 : R175 M0 := fun j j0 j1 => by rw [m0 175 j (by decide)]; exact R5 j j0 j1
  by_cases c1 : (2 ≤ x1) ∧ (x1 ≤ 8)
  case neg =>
    refine ⟨-102, Mh, -102, M0, eC.of1 (rC1.of (by decide) (LE0 rfl) ?_), eC.of1 (rC1.of (by decide) (LE0 rfl) ?_), rfl, T0, O0, R50, frx.rf, g0⟩
    · refine rh1.up (rX1_close_0 hh _ _ ?_)
      exact ⟨fun _ => ⟨rfl, rfl⟩, fun y => absurd c1 y⟩
    · refine rh1.of (rX32_close_0 hm _ _ ?_)
      rw [← hM0]
      exact ⟨fun _ => ⟨rfl, rfl⟩, fun y => absurd c1 y⟩
  obtain ⟨s, hs⟩ : ∃ s, s = M0 0 2 := ⟨_, rfl⟩
  obtain ⟨-, t2, t3, t4⟩ := id T0
  rw [← hs] at t2 t3 t4
  have OM : ∀ {A B : rhM}, (∀ j, j = 1 → A 4 j = Mh 4 j) → (∀ k, A 5 k = Mh 5 k) → B 0 4 = M0 0 4 → (∀ k, B 2 k = M0 2 k) → Rou A B := fun h1 h2 h3 h4 => by
    obtain ⟨q1, q2, q3, q4⟩ := O0
    unfold Rou
    rw [h1 1 rfl, h3]
    exact ⟨q1, q2, q3, fun k k0 k1 => by rw [h2, h4]; exact q4 k k0 k1⟩
  obtain ⟨o, A1, K, f1, cs⟩ := h_signs hh T0 (lo := 2) (hi := 15 - x1) (gr := 15) (by omega)
  rw [← hs] at cs
  have fA2 : frx Fcs Mh (rh_set A1 1 2 0) := (f1.w (fun c j h => .inl h)).st (.inr (.inr (.inr ⟨rfl, rfl⟩)))
  have a4 : ∀ j, rh_set A1 1 2 0 4 j = Mh 4 j := fun j => by rw [rh_set_a (by decide)]; exact f1 4 j (by unfold Fsg; omega)
  have a5 : ∀ j, rh_set A1 1 2 0 5 j = Mh 5 j := fun j => by rw [rh_set_a (by decide)]; exact f1 5 j (by unfold Fsg; omega)
  have SH : ∀ P : Int → rhM → Prop, rh1 wh YX1_close (5 + 9) 25 [(0, 2, 0), (1, 0, x1)] [(0, 15), (0, 15 - x1), (0, 2), (2, 0)] Mh P → rh1 wh YX1_close (5 + 9) 0 [(0, 2, 0), (1, 0, x1)] [] Mh P := fun P HP => by
    refine rh1.up (rX1_close_0 hh _ _ ?_)
    exact ⟨fun y => absurd c1 y, fun _ => rh1.s (eS.fx 1 (x := 15 - x1) rfl ⟨by omega, by omega⟩ rfl) HP⟩
  by_cases hin : 2 ≤ s ∧ s ≤ 15 - x1
  case neg =>
    rcases cs with ⟨ho, -⟩ | ⟨h, -⟩
    · rw [ho] at K
      refine ⟨-102, rh_set A1 1 2 0, -102, rh_set M0 0 2 0, eC.of1 (rC1.of (by decide) (LE0 rfl) (SH _ ?_)), eC.of1 (rC1.of (by decide) (LE0 rfl) ?_), rfl, Rtp.use (Mh := Mh) (Mm := Mm) (rh_set_s _ _ _ _) (rh_set_s _ _ _ _), OM (fun j _ => a4 j) a5 (rh_set_j (by decide)) (fun k => rh_set_a (by decide)), fun j j0 j1 => by rw [rh_set_a (by decide)]; exact R50 j j0 j1, fA2, g0.st (by unfold Gcs; omega)⟩
      · refine rh1.s (w_cl25 hh (by decide) K (LE0 rfl)) ?_
        refine rh1.up (rX1_close_28 hh _ _ _ ?_)
        exact ⟨fun _ => ⟨rfl, rfl⟩, fun y => absurd rfl y⟩
      · refine rh1.of (rX32_close_0 hm _ _ ?_)
        rw [← hM0, ← hs]
        refine ⟨fun y => absurd c1 y, fun _ => ?_⟩
        (intro zq hzq; replace hzq := hzq.symm; subst hzq)
        exact ⟨⟨by omega, by omega⟩, fun _ => ⟨rfl, rfl⟩, fun y => absurd (by omega) y⟩
    · exact absurd h hin
  have SM : ∀ P : Int → rhM → Prop, rh1 wm YX32_close 4 61 [(0, 2, 0), (1, 0, x1), (2, 0, s + x1), (3, 0, 0)] [] M0 P → rh1 wm YX32_close 4 0 [(0, 2, 0), (1, 0, x1)] [] Mm P := fun P HP => by
    refine rh1.of (rX32_close_0 hm _ _ ?_)
    rw [← hM0, ← hs]
    refine ⟨fun y => absurd c1 y, fun _ => ?_⟩
    (intro zq hzq; replace hzq := hzq.symm; subst hzq)
    exact ⟨⟨by omega, by omega⟩, fun y => by omega, fun _ => HP⟩
  rcases cs with ⟨-, h⟩ | ⟨-, ⟨ho, q, q1, q2, q3, q4⟩ | ⟨ho, z3, z6⟩⟩
  · exact absurd hin h
  · rw [ho] at K
    obtain ⟨B', HM, gB, b2⟩ := m_clsF hm (c := x1) (n' := s + x1) (q := q) (B := M0) hs.symm ⟨by omega, by omega⟩ q1 q3 q4 q.toNat 0 M0 (by omega) (by decide) frx.rf
    refine ⟨-1000 - q, rh_set A1 1 2 0, -1000 - q, B', eC.of1 (rC1.of (by decide) (LE0 rfl) (SH _ ?_)), eC.of1 (rC1.of (by decide) (LE0 rfl) (SM _ (HM _ ⟨rfl, rfl⟩))), rfl, Rtp.use (Mh := Mh) (Mm := Mm) (rh_set_s _ _ _ _) b2, OM (fun j _ => a4 j) a5 (gB 0 4 (by omega)) (fun k => gB 2 k (by omega)), fun j j0 j1 => by rw [gB 175 j (by omega)]; exact R50 j j0 j1, fA2, g0.tr (gB.w (fun c j h => by unfold Gcs; omega))⟩
    refine rh1.s ((eG.up 9 (vcX1_close_25 hh K (LE0 rfl))).toS) ?_
    refine rh1.s ((eG.less (L' := [(0, 2, 0)]) (fun z hz => by rw [List.mem_singleton] at hz; rw [hz]; exact List.mem_cons_self)).toS) ?_
    refine rh1.up (rX1_close_55 hh _ ?_)
    rw [q2]
    exact ⟨⟨by omega, by omega⟩, rfl, rfl⟩
  rw [ho] at K
  -- the word on both sides
  obtain ⟨A2, hA2⟩ : ∃ A2, A2 = rh_set A1 1 2 0 := ⟨_, rfl⟩
  rw [← hA2] at fA2 a4 a5
  have y3 : A2 213 3 = s := by rw [hA2, rh_set_a (by decide)]; exact z3
  have y6 : ∀ i, 0 ≤ i → i < s → A2 216 i = M0 1 i ∧ M0 1 i ≤ 15 := fun i i0 i1 => by rw [hA2, rh_set_a (by decide)]; exact z6 i i0 i1
  obtain ⟨A3, E3, v3, g3⟩ := h_clsB hh (c := x1) y3 ⟨by omega, by omega⟩ (by omega) x1.toNat 0 A2 (by omega) (by decide) (fun i i0 i1 => by omega) frx.rf
  obtain ⟨A4, hA4⟩ : ∃ A4, A4 = rh_set A3 213 3 (s + x1) := ⟨_, rfl⟩
  have w4l : ∀ i, 0 ≤ i → i < s → A4 216 i = M0 1 i := fun i i0 i1 => by rw [hA4, rh_set_a (by decide), g3 216 i (by omega)]; exact (y6 i i0 i1).1
  have w4h : ∀ i, 0 ≤ i → i < x1 → A4 216 (s + i) = 16 := fun i i0 i1 => by rw [hA4, rh_set_a (by decide)]; exact v3 i i0 i1
  have tl : ∀ i, 0 ≤ i → i < s → 0 ≤ M0 1 i ∧ M0 1 i ≤ 15 := fun i i0 i1 => ⟨(t4 i i0 i1).2.1.1, (y6 i i0 i1).2⟩
  have rA : ∀ c j, c = 214 ∨ c = 215 → A4 c j = Mh c j := fun c j h => by
    rw [hA4, rh_set_a (by omega), g3 c j (by omega), hA2, rh_set_a (by omega), f1 c j (by unfold Fsg; omega)]
  have R4 : Rmn A4 := ⟨fun i i0 i1 => by rw [rA 214 i (.inl rfl)]; exact R.1 i i0 i1, fun i i0 i1 => by rw [rA 215 i (.inr rfl)]; exact R.2 i i0 i1⟩
  have wr : ∀ i, 0 ≤ i → i < s + x1 → 0 ≤ A4 216 i ∧ A4 216 i ≤ 16 := fun i i0 i1 => by
    by_cases y : i < s
    · rw [w4l i i0 y]; have := tl i i0 y; omega
    · have := w4h (i - s) (by omega) (by omega)
      rw [show s + (i - s) = i by omega] at this
      omega
  obtain ⟨r, A5, pb, EM, fM, bl, out⟩ := c_mendH hh hm (A := A4) (sz := s + x1) (n := x1) R4 ⟨by omega, by omega⟩ (by rw [hA4, rh_set_s]) ⟨by omega, by omega⟩ wr
  have nb : nct (A4 216) 16 (s + x1).toNat = x1 := by
    have := nct_at (w := A4 216) (s := s.toNat) (fun i i0 i1 => by rw [w4l i i0 (by omega)]; have := tl i i0 (by omega); omega) x1.toNat (fun i i0 i1 => by rw [show ((s.toNat : Nat) : Int) = s by omega]; exact w4h i i0 (by omega))
    rw [show (s + x1).toNat = s.toNat + x1.toNat by omega, this]
    omega
  have pbe : ∀ u, 0 ≤ u → u < x1 → pb u = s + u := fun u u0 u1 => by
    have n1 := nct_at (w := A4 216) (s := s.toNat) (fun i i0 i1 => by rw [w4l i i0 (by omega)]; have := tl i i0 (by omega); omega) u.toNat (fun i i0 i1 => by rw [show ((s.toNat : Nat) : Int) = s by omega]; exact w4h i i0 (by omega))
    have := bl (s.toNat + u.toNat) (by omega) (by rw [show ((s.toNat + u.toNat : Nat) : Int) = s + u by omega]; exact w4h u u0 u1)
    rw [n1, show ((u.toNat : Nat) : Int) = u by omega] at this
    rw [this]
    omega
  rw [nb] at out
  -- the model
  obtain ⟨B1, F1, p1, k1⟩ := m_clsT hm (c := x1) (n' := s + x1) (B := M0) hs.symm ⟨by omega, by omega⟩ (fun i i0 i1 => (tl i i0 i1).2) s.toNat 0 M0 (by omega) (by decide) (fun i i0 i1 => by omega) frx.rf
  obtain ⟨B2, F2, p2, k2⟩ := m_clsU hm (c := x1) (s := s) (n' := s + x1) (B := B1) (by rw [k1 0 2 (by omega)]; exact hs.symm) ⟨by omega, by omega⟩ (by omega) x1.toNat 0 B1 (by omega) (by decide) (fun i i0 i1 => by omega) frx.rf
  have xN : ((x1.toNat : Nat) : Int) = x1 := by omega
  have zl : ∀ i, 0 ≤ i → i < s → zw A4 i = M0 1 i := fun i i0 i1 => by
    unfold zw
    rw [w4l i i0 i1]
    exact rh_if_f (by have := tl i i0 i1; omega)
  obtain ⟨v, B3, F3, sc, k3, w3, r3⟩ := s_m hh hm (A0 := Mh) (B := B2) (n := x1) (sz := s + x1) (m := x1.toNat) (z := zw A4) R (by omega) ⟨by omega, by omega⟩ (by omega) ⟨by omega, by omega⟩ (fun u u0 u1 => by rw [p2 u u0 (by omega)]; exact ⟨by omega, by omega⟩) (fun a b a0 a1 b0 b1 h => by rw [p2 a a0 (by omega), p2 b b0 (by omega)] at h; omega) (fun i i0 i1 => zw_r (wr i i0 i1)) (fun i i0 i1 ni => by
    by_cases y : i < s
    · rw [k2 174 i (by omega), p1 i i0 y, zl i i0 y]
    · exact absurd ⟨i - s, by omega, by rw [p2 (i - s) (by omega) (by omega)]; omega⟩ ni) (fun j j0 j1 => by rw [k2 175 j (by omega), k1 175 j (by omega)]; exact R50 j j0 j1)
  rw [xN] at F3
  rcases sc with ⟨-, ne, -⟩ | ⟨-, W', w1', w2', w4'⟩
  · exact absurd xN.symm ne
  have plE : ∀ (q : Int → Int) (c : Int), 0 ≤ c → c < ((x1.toNat : Nat) : Int) → plc x1 pb q c = B2 176 c := fun q c c0 c1 => by
    rw [plc_b (by omega), pbe c c0 (by omega), p2 c c0 (by omega)]
  rcases out with ⟨-, no⟩ | ⟨e, q, W, ⟨e1, -, -, oW, -⟩, hr, fin⟩
  · refine absurd ⟨W', ?_, w2'⟩ (no 0 (fun _ => 0) (by decide) (by omega) (fun k k0 k1 => by omega))
    rw [show (x1 + 0).toNat = x1.toNat by omega]
    exact w1'.cg (fun c c0 c1 => plE _ c c0 c1)
  rw [nb] at e1 oW
  have e0 : e = 0 := by omega
  rw [e0, show (x1 + 0).toNat = x1.toNat by omega] at oW
  have oW1 : Off W (zw A4) (B2 176) (s + x1) x1.toNat := oW.1.cg (fun c c0 c1 => (plE q c c0 c1).symm)
  have rW : Rgt W (s + x1) ((x1.toNat : Nat) : Int) := by rw [xN]; exact oW.2
  have rW' : Rgt W' (s + x1) ((x1.toNat : Nat) : Int) := by rw [xN]; exact w2'
  have WW := oW1.one w1' (by omega) (Nat.le_refl _) (fun c c0 c1 => by rw [p2 c c0 (by omega)]; exact ⟨by omega, by omega⟩) (fun a b a0 a1 b0 b1 h => by rw [p2 a a0 (by omega), p2 b b0 (by omega)] at h; omega) rW rW'
  obtain ⟨B4, F4, p4, k4⟩ := m_clsP hm (c := x1) (s := s) (n' := s + x1) (B := B3) ⟨by omega, by omega⟩ (by omega) (fun i i0 i1 => by rw [k3 176 i (by omega)]; exact p2 i i0 i1) x1.toNat 0 B3 (by omega) (by decide) (fun i i0 i1 => by omega) frx.rf
  obtain ⟨B5, hB5⟩ : ∃ B5, B5 = rh_set B4 0 4 (s + x1) := ⟨_, rfl⟩
  obtain ⟨B6, F6, p6, k6⟩ := m_clsO hm (n' := s + x1) (B := B5) ⟨by omega, by omega⟩ (s + x1).toNat 0 B5 (by omega) (by decide) (fun i i0 i1 => by omega) frx.rf
  have sym : ∀ i, 0 ≤ i → i < s + x1 → B5 174 i = W i := fun i i0 i1 => by
    rw [hB5, rh_set_a (by decide), WW i i0 i1]
    by_cases y : i < s
    · rw [k4 174 i (by omega), w3 i]
      have ni : ¬ ∃ c, (0 ≤ c ∧ c < ((x1.toNat : Nat) : Int)) ∧ B2 176 c = i := fun ⟨c, c1, c2⟩ => by rw [p2 c c1.1 (by omega)] at c2; omega
      unfold wip0
      rw [rh_if_f ni, k2 174 i (by omega), p1 i i0 y, w1'.2 i i0 i1 ni, zl i i0 y]
    · have := p4 (i - s) (by omega) (by omega)
      rw [show s + (i - s) = i by omega] at this
      rw [this, w4' (i - s) (by omega) (by omega), p2 (i - s) (by omega) (by omega), show s + (i - s) = i by omega]
  have r16 := oW.1.1
  have A53 : A5 213 3 = s + x1 := by rw [fM 213 3 (by unfold Fmd; omega), hA4, rh_set_s]
  obtain ⟨A6, EW, fW, wo⟩ := c_write hh (A0 := A5) (n := s + x1) A53 ⟨by omega, by omega⟩
  have outR : Rou (m_end A6 (s + x1)) (rh_set B6 0 2 0) := wo.fin ⟨by omega, by omega⟩ (by rw [rh_set_j (by decide), k6 0 4 (by omega), hB5, rh_set_s]) (fun k k0 k1 => by
    have := r16 k k0 k1
    unfold R16 at this
    rw [rh_set_a (by decide), p6 k k0 k1, sym k k0 k1, fin k k0 k1]
    exact ⟨rfl, ⟨by omega, by omega⟩⟩)
  have fin3 : m_end A6 (s + x1) 213 3 = s + x1 := by
    rw [(m_endF (n := s + x1) fW) 213 3 (by unfold Fou; omega)]; exact A53
  have fin12 : m_end A6 (s + x1) 1 2 = 0 := by
    rw [(m_endF (n := s + x1) fW) 1 2 (by unfold Fou; omega), fM 1 2 (by unfold Fmd; omega), hA4, rh_set_a (by decide), g3 1 2 (by omega), hA2, rh_set_s]
  refine ⟨s + x1, m_end A6 (s + x1), s + x1, rh_set B6 0 2 0, eC.of1 (rC1.of (by decide) (LE0 rfl) (SH _ ?_)), eC.of1 (rC1.of (by decide) (LE0 rfl) (SM _ (rh1.s F1 (rh1.s F2 ?_)))), rfl, Rtp.use (Mh := Mh) (Mm := Mm) fin12 (rh_set_s _ _ _ _), outR, fun j j0 j1 => ?_, ?_, ?_⟩
  · refine rh1.s (w_cl25 hh (by decide) K (LE0 rfl)) ?_
    refine rh1.up (rX1_close_28 hh _ _ _ ?_)
    rw [← hA2]
    refine ⟨fun y => absurd y (by decide), fun _ => rh1.s E3 ?_⟩
    refine rh1.up (rX1_close_86 hh _ _ _ ?_)
    rw [g3 213 3 (by omega), y3, ← hA4]
    refine ⟨fun y => by omega, fun _ => ⟨⟨by omega, by omega⟩, rh1.s (w_cl134 hh (by decide) EM (LE0 rfl)) ?_⟩⟩
    refine rh1.up (rX1_close_137 hh _ _ ?_)
    refine rh1.s (w_cl139 hh (by decide) EW (LE0 rfl)) ?_
    refine rh1.up (rX1_close_142 hh _ ?_)
    exact ⟨fin3, rfl⟩
  · refine rh1.of (rX32_close_106 hm _ _ _ _ ?_)
    refine ⟨fun y => by omega, fun _ => rh1.s (vX32_close_133 hm F3 (LE0 rfl)) ?_⟩
    refine rh1.of (rX32_close_136 hm _ _ _ _ ?_)
    refine rh1.s F4 ?_
    refine rh1.of (rX32_close_139 hm _ _ _ _ ?_)
    rw [← hB5]
    refine ⟨fun y => by omega, fun _ => rh1.s F6 ?_⟩
    refine rh1.of (rX32_close_174 hm _ _ _ ?_)
    exact ⟨fun y => by omega, fun _ => ⟨rfl, rfl⟩⟩
  · rw [rh_set_a (by decide), k6 175 j (by omega), hB5, rh_set_a (by decide), k4 175 j (by omega)]
    exact r3 j j0 j1
  · exact fA2.tr (((g3.w (fun c j h => .inr (.inl (by unfold Fmd; omega)))).tr (by rw [hA4]; exact frx.rf.st (.inl (by unfold Fsg; omega)))).tr ((fM.w (fun c j h => .inr (.inl h))).tr ((m_endF fW).w (fun c j h => .inr (.inr (.inl h))))))
  · exact (g0.tr ((k1.w (fun c j h => by unfold Gcs; omega)).tr ((k2.w (fun c j h => by unfold Gcs; omega)).tr ((k3.w (fun c j h => by unfold Gcs; omega)).tr ((k4.w (fun c j h => by unfold Gcs; omega)).tr ((by rw [hB5]; exact frx.rf.st (by unfold Gcs; omega) : frx Gcs B4 B5).tr (k6.w (fun c j h => by unfold Gcs; omega)))))))).st (by unfold Gcs; omega)
end Close
