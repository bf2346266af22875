/-! ===== LAYER 2: systems over the field: the model's reducing ===== -/
section Reduce
variable {wh wm : rhW}
def swp (S : Int → Int → Int) (u p e c : Int) : Int := if e = u then S p c else if e = p then S u c else S e c
def red (S : Int → Int → Int) (u e c : Int) : Int := if e = u then gfm (giv (S u u)) (S u c) else rh_xor (S e c) (gfm (S e u) (gfm (giv (S u u)) (S u c)))
def Mtx (B : rhM) (n : Int) (S : Int → Int → Int) : Prop := ∀ e c, 0 ≤ e → e < n → 0 ≤ c → c < 9 → B 175 (9 * e + c) = S e c
theorem m_swap (hm : rh_ms wm) {B : rhM} {S : Int → Int → Int} {n u p : Int} (hn : n ≤ 8) (hu : 0 ≤ u ∧ u < n) (hp : 0 ≤ p ∧ p < n) : ∀ (m : Nat) (k : Int) (X : rhM), k + m = 9 → 0 ≤ k → (∀ e c, 0 ≤ e → e < n → 0 ≤ c → c < 9 → X 175 (9 * e + c) = if c < k then swp S u p e c else S e c) → frx (fun c j => c = 175 ∧ j < 9 * n) B X → ∃ X', eS wm YX32_reduce 2 3 [(0, 2, 0), (1, 0, n), (2, 0, u), (3, 0, p), (4, 0, k)] [] X 3 [(0, 2, 0), (1, 0, n), (2, 0, u), (3, 0, p), (4, 0, 9)] [] X' ∧ Mtx X' n (swp S u p) ∧ frx (fun c j => c = 175 ∧ j < 9 * n) B X' := by
  intro m
  induction m with
  | zero =>
    intro k X hk k0 h g
    have e : k = 9 := by omega
    rw [e] at h ⊢
    exact ⟨X, eS.rf, fun a c a0 a1 c0 c1 => by rw [h a c a0 a1 c0 c1, if_pos c1], g⟩
  | succ m ih =>
    intro k X hk k0 h g
    have hu' := h u k hu.1 hu.2 k0 (by omega)
    have hp' := h p k hp.1 hp.2 k0 (by omega)
    rw [if_neg (by omega)] at hu' hp'
    obtain ⟨X', E, r⟩ := ih (k + 1) (rh_set (rh_set X 175 (9 * u + k) (S p k)) 175 (9 * p + k) (S u k)) (by omega) (by omega) (fun e c e0 e1 c0 c1 => by
      by_cases ec : c = k
      · rw [if_pos (show c < k + 1 by omega), ec]
        unfold swp
        by_cases ep : e = p
        · rw [ep, rh_set_s]
          by_cases up : p = u
          · rw [if_pos up, up]
          · rw [if_neg up, if_pos rfl]
        · rw [rh_set_j (by omega)]
          by_cases eu : e = u
          · rw [eu, rh_set_s, if_pos rfl]
          · rw [rh_set_j (by omega), if_neg eu, if_neg ep, h e k e0 e1 k0 (by omega), if_neg (by omega)]
      · rw [rh_set_j (by omega), rh_set_j (by omega), h e c e0 e1 c0 c1]
        by_cases l : c < k
        · rw [if_pos l, if_pos (by omega)]
        · rw [if_neg l, if_neg (by omega)]) ((g.st ⟨rfl, by omega⟩).st ⟨rfl, by omega⟩)
    refine ⟨X', eS.of (fun P HP => ?_), r⟩
    refine rh1.of (rX32_reduce_3 hm _ _ _ _ _ ?_)
    rw [hu', hp']
    refine ⟨fun _ => ⟨⟨by omega, by omega⟩, ?_⟩, fun z => by omega⟩
    (intro zq hzq; replace hzq := hzq.symm; subst hzq)
    exact ⟨⟨by omega, by omega⟩, ⟨by omega, by omega⟩, ⟨by omega, by omega⟩, ⟨by omega, by omega⟩, rh1.s E HP⟩
theorem m_norm (hm : rh_ms wm) {B : rhM} {S : Int → Int → Int} {n u b : Int} (hn : n ≤ 8) (hu : 0 ≤ u ∧ u < n) : ∀ (m : Nat) (k : Int) (X : rhM), k + m = 9 → 0 ≤ k → (∀ e c, 0 ≤ e → e < n → 0 ≤ c → c < 9 → X 175 (9 * e + c) = if e = u ∧ c < k then gfm b (S u c) else S e c) → frx (fun c j => c = 175 ∧ j < 9 * n) B X → ∃ X', eS wm YX32_reduce 2 87 [(0, 2, 0), (1, 0, n), (2, 0, u), (4, 0, b), (5, 0, k)] [] X 87 [(0, 2, 0), (1, 0, n), (2, 0, u), (4, 0, b), (5, 0, 9)] [] X' ∧ Mtx X' n (fun e c => if e = u then gfm b (S u c) else S e c) ∧ frx (fun c j => c = 175 ∧ j < 9 * n) B X' := by
  intro m
  induction m with
  | zero =>
    intro k X hk k0 h g
    have e : k = 9 := by omega
    rw [e] at h ⊢
    refine ⟨X, eS.rf, fun a c a0 a1 c0 c1 => ?_, g⟩
    rw [h a c a0 a1 c0 c1]
    show _ = if a = u then gfm b (S u c) else S a c
    by_cases z : a = u
    · rw [if_pos ⟨z, c1⟩, if_pos z]
    · rw [if_neg (fun y => z y.1), if_neg z]
  | succ m ih =>
    intro k X hk k0 h g
    have hu' := h u k hu.1 hu.2 k0 (by omega)
    rw [if_neg (by omega)] at hu'
    obtain ⟨X', E, r⟩ := ih (k + 1) (rh_set X 175 (9 * u + k) (gfm b (S u k))) (by omega) (by omega) (fun e c e0 e1 c0 c1 => by
      by_cases ec : e = u ∧ c = k
      · rw [ec.1, ec.2, rh_set_s, if_pos ⟨rfl, by omega⟩]
      · rw [rh_set_j (by omega), h e c e0 e1 c0 c1]
        by_cases l : e = u ∧ c < k
        · rw [if_pos l, if_pos ⟨l.1, by omega⟩]
        · rw [if_neg l, if_neg (by omega)]) (g.st ⟨rfl, by omega⟩)
    refine ⟨X', eS.of (fun P HP => ?_), r⟩
    refine rh1.of (rX32_reduce_87 hm _ _ _ _ _ ?_)
    rw [hu']
    refine ⟨fun _ => ⟨⟨by omega, by omega⟩, ?_⟩, fun z => by omega⟩
    refine rh1.s (eS.fx 2 (x := 9 * u + k) rfl ⟨by omega, by omega⟩ rfl) ?_
    refine rh1.s (vX32_reduce_119 (c_timesM hm b (S u k) X) (LE0 rfl)) ?_
    refine rh1.of (rX32_reduce_122 hm _ _ _ _ _ _ _ ?_)
    exact ⟨⟨by omega, by omega⟩, ⟨by omega, by omega⟩, rh1.s E HP⟩
theorem m_redR (hm : rh_ms wm) {B : rhM} {N : Int → Int → Int} {n u e t : Int} (hn : n ≤ 8) (hu : 0 ≤ u ∧ u < n) (he : 0 ≤ e ∧ e < n) (heu : e ≠ u) (ht : 0 < t) : ∀ (m : Nat) (k : Int) (X : rhM), k + m = 9 → 0 ≤ k → (∀ c, 0 ≤ c → c < 9 → X 175 (9 * u + c) = N u c) → (∀ c, k ≤ c → c < 9 → X 175 (9 * e + c) = N e c) → frx (fun c j => c = 175 ∧ j < 9 * n) B X → ∃ X', eS wm YX32_reduce 2 165 [(0, 2, 0), (1, 0, n), (2, 0, u), (5, 0, e), (6, 0, t), (7, 0, k)] [] X 165 [(0, 2, 0), (1, 0, n), (2, 0, u), (5, 0, e), (6, 0, t), (7, 0, 9)] [] X' ∧ (∀ c, k ≤ c → c < 9 → X' 175 (9 * e + c) = rh_xor (N e c) (gfm t (N u c))) ∧ (∀ i, (∀ c, k ≤ c → c < 9 → i ≠ 9 * e + c) → X' 175 i = X 175 i) ∧ frx (fun c j => c = 175 ∧ j < 9 * n) B X' := by
  intro m
  induction m with
  | zero =>
    intro k X hk k0 h1 h2 g
    have e9 : k = 9 := by omega
    rw [e9]
    exact ⟨X, eS.rf, fun c c0 c1 => by omega, fun _ _ => rfl, g⟩
  | succ m ih =>
    intro k X hk k0 h1 h2 g
    obtain ⟨X', E, x1, x2, x3⟩ := ih (k + 1) (rh_set X 175 (9 * e + k) (rh_xor (N e k) (gfm t (N u k)))) (by omega) (by omega) (fun c c0 c1 => by rw [rh_set_j (by omega)]; exact h1 c c0 c1) (fun c c0 c1 => by rw [rh_set_j (by omega)]; exact h2 c (by omega) c1) (g.st ⟨rfl, by omega⟩)
    refine ⟨X', eS.of (fun P HP => ?_), fun c c0 c1 => ?_, fun i hi => ?_, x3⟩
    · refine rh1.of (rX32_reduce_165 hm _ _ _ _ _ _ ?_)
      rw [h1 k k0 (by omega), h2 k (by omega) (by omega)]
      refine ⟨fun _ => ⟨⟨by omega, by omega⟩, ⟨by omega, by omega⟩, ?_⟩, fun z => absurd ⟨by omega, ht⟩ z⟩
      refine rh1.s (eS.fx 3 (x := 9 * e + k) rfl ⟨by omega, by omega⟩ rfl) ?_
      refine rh1.s (vX32_reduce_205 (c_timesM hm t (N u k) X) (LE0 rfl)) ?_
      refine rh1.of (rX32_reduce_208 hm _ _ _ _ _ _ _ _ _ ?_)
      exact ⟨⟨by omega, by omega⟩, ⟨by omega, by omega⟩, rh1.s E HP⟩
    · by_cases ec : c = k
      · rw [ec, x2 _ (fun d d0 d1 => by omega), rh_set_s]
      · exact x1 c (by omega) c1
    · rw [x2 i (fun d d0 d1 => hi d (by omega) d1), rh_set_j (hi k (by omega) (by omega))]
theorem c_reduce (hm : rh_ms wm) {B : rhM} {S : Int → Int → Int} {n u p : Int} (hn : 1 ≤ n ∧ n ≤ 8) (hu : 0 ≤ u ∧ u < n) (hp : 0 ≤ p ∧ p < n) (hB : Mtx B n S) (hS : ∀ e c, 0 ≤ e → e < n → 0 ≤ c → c < 9 → R16 (S e c)) (h0 : S p u ≠ 0) : ∃ B', eC wm YX32_reduce 2 [(2, 0), (0, n), (0, u), (0, p)] B 0 B' ∧ Mtx B' n (red (swp S u p) u) ∧ frx (fun c j => c = 175 ∧ j < 9 * n) B B' := by
  obtain ⟨X1, E1, M1, g1⟩ := m_swap hm (B := B) (S := S) hn.2 hu hp 9 0 B (by decide) (by decide) (fun e c e0 e1 c0 c1 => by rw [if_neg (by omega)]; exact hB e c e0 e1 c0 c1) frx.rf
  obtain ⟨T, hT⟩ : ∃ T, T = swp S u p := ⟨_, rfl⟩
  rw [← hT] at M1 ⊢
  have hTr : ∀ e c, 0 ≤ e → e < n → 0 ≤ c → c < 9 → R16 (T e c) := fun e c e0 e1 c0 c1 => by
    rw [hT]
    unfold swp
    by_cases z : e = u
    · rw [if_pos z]; exact hS p c hp.1 hp.2 c0 c1
    · rw [if_neg z]
      by_cases z2 : e = p
      · rw [if_pos z2]; exact hS u c hu.1 hu.2 c0 c1
      · rw [if_neg z2]; exact hS e c e0 e1 c0 c1
  have tu : T u u = S p u := by rw [hT]; exact if_pos rfl
  have tr := hTr u u hu.1 hu.2 hu.1 (by omega)
  have tr1 : 1 ≤ T u u ∧ T u u < 16 := by unfold R16 at tr; rw [← tu] at h0; omega
  have gi := (giv_e tr1).1
  obtain ⟨X2, E2, M2, g2⟩ := m_norm hm (B := B) (S := T) (b := giv (T u u)) hn.2 hu 9 0 X1 (by decide) (by decide) (fun e c e0 e1 c0 c1 => by rw [if_neg (by omega)]; exact M1 e c e0 e1 c0 c1) g1
  obtain ⟨N, hN⟩ : ∃ N : Int → Int → Int, N = fun e c => if e = u then gfm (giv (T u u)) (T u c) else T e c := ⟨_, rfl⟩
  rw [← hN] at M2
  have Nu : ∀ c, N u c = gfm (giv (T u u)) (T u c) := fun c => by rw [hN]; exact if_pos rfl
  have No : ∀ e c, e ≠ u → N e c = T e c := fun e c h => by rw [hN]; exact if_neg h
  have key : ∀ (m : Nat) (e : Int) (X : rhM), e + m = n → 0 ≤ e → (∀ a c, 0 ≤ a → a < e → 0 ≤ c → c < 9 → X 175 (9 * a + c) = red T u a c) → (∀ a c, e ≤ a → a < n → 0 ≤ c → c < 9 → X 175 (9 * a + c) = N a c) → frx (fun c j => c = 175 ∧ j < 9 * n) B X → ∃ X', eS wm YX32_reduce 2 132 [(0, 2, 0), (1, 0, n), (2, 0, u), (5, 0, e)] [] X 132 [(0, 2, 0), (1, 0, n), (2, 0, u), (5, 0, n)] [] X' ∧ Mtx X' n (red T u) ∧ frx (fun c j => c = 175 ∧ j < 9 * n) B X' := by
    intro m
    induction m with
    | zero =>
      intro e X he e0 h1 h2 g
      have en : e = n := by omega
      rw [en] at h1 ⊢
      exact ⟨X, eS.rf, h1, g⟩
    | succ m ih =>
      intro e X he e0 h1 h2 g
      have ru : ∀ c, red T u u c = N u c := fun c => by rw [Nu]; exact if_pos rfl
      have huX : ∀ c, 0 ≤ c → c < 9 → X 175 (9 * u + c) = N u c := fun c c0 c1 => by
        by_cases l : u < e
        · rw [h1 u c hu.1 l c0 c1, ru]
        · exact h2 u c (by omega) hu.2 c0 c1
      by_cases eu : e = u
      · obtain ⟨X', E, r⟩ := ih (e + 1) X (by omega) (by omega) (fun a c a0 a1 c0 c1 => by
          by_cases ea : a = e
          · rw [ea, eu, ru]; exact huX c c0 c1
          · exact h1 a c a0 (by omega) c0 c1) (fun a c a0 a1 c0 c1 => h2 a c (by omega) a1 c0 c1) g
        refine ⟨X', eS.of (fun P HP => ?_), r⟩
        refine rh1.of (rX32_reduce_132 hm _ _ _ _ ?_)
        rw [rh_if_t eu]
        refine ⟨fun _ => ⟨fun z => absurd eu z, ?_⟩, fun z => by omega⟩
        (intro zq hzq; replace hzq := hzq.symm; subst hzq)
        refine rh1.of (rX32_reduce_165 hm _ _ _ _ _ _ ?_)
        exact ⟨fun z => absurd z.2 (by decide), fun _ => ⟨⟨by omega, by omega⟩, rh1.s E HP⟩⟩
      · have xe := h2 e u (by omega) (by omega) hu.1 (by omega)
        rw [No e u eu] at xe
        have tr2 := hTr e u e0 (by omega) hu.1 (by omega)
        have start : ∀ P : Int → rhM → Prop, rh1 wm YX32_reduce 2 165 [(0, 2, 0), (1, 0, n), (2, 0, u), (5, 0, e), (6, 0, T e u), (7, 0, 0)] [] X P → rh1 wm YX32_reduce 2 132 [(0, 2, 0), (1, 0, n), (2, 0, u), (5, 0, e)] [] X P := fun P HP => by
          refine rh1.of (rX32_reduce_132 hm _ _ _ _ ?_)
          rw [rh_if_f eu, xe]
          refine ⟨fun _ => ⟨fun _ => ⟨by omega, by omega⟩, ?_⟩, fun z => by omega⟩
          (intro zq hzq; replace hzq := hzq.symm; subst hzq)
          exact HP
        have re : ∀ c, red T u e c = rh_xor (N e c) (gfm (T e u) (N u c)) := fun c => by rw [Nu, No e c eu]; exact if_neg eu
        by_cases t0 : 0 < T e u
        · obtain ⟨X1', E1', x1, x2, x3⟩ := m_redR hm (B := B) (N := N) hn.2 hu (e := e) ⟨by omega, by omega⟩ eu t0 9 0 X (by decide) (by decide) huX (fun c c0 c1 => h2 e c (by omega) (by omega) c0 c1) g
          obtain ⟨X', E, r⟩ := ih (e + 1) X1' (by omega) (by omega) (fun a c a0 a1 c0 c1 => by
            by_cases ea : a = e
            · rw [ea, re]; exact x1 c c0 c1
            · rw [x2 _ (fun d d0 d1 => by omega)]; exact h1 a c a0 (by omega) c0 c1) (fun a c a0 a1 c0 c1 => by rw [x2 _ (fun d d0 d1 => by omega)]; exact h2 a c (by omega) a1 c0 c1) x3
          refine ⟨X', eS.of (fun P HP => start P (rh1.s E1' ?_)), r⟩
          refine rh1.of (rX32_reduce_165 hm _ _ _ _ _ _ ?_)
          exact ⟨fun z => absurd z.1 (by decide), fun _ => ⟨⟨by omega, by omega⟩, rh1.s E HP⟩⟩
        · have tz : T e u = 0 := by unfold R16 at tr2; omega
          obtain ⟨X', E, r⟩ := ih (e + 1) X (by omega) (by omega) (fun a c a0 a1 c0 c1 => by
            by_cases ea : a = e
            · have nr : R16 (N u c) := by rw [Nu]; exact gfm_r ⟨by omega, by omega⟩ (hTr u c hu.1 hu.2 c0 c1)
              have ne : R16 (N e c) := by rw [No e c eu]; exact hTr e c e0 (by omega) c0 c1
              rw [ea, re, tz, (gfm_0 nr).1, (xor_0 ne).2.1]
              exact h2 e c (by omega) (by omega) c0 c1
            · exact h1 a c a0 (by omega) c0 c1) (fun a c a0 a1 c0 c1 => h2 a c (by omega) a1 c0 c1) g
          refine ⟨X', eS.of (fun P HP => start P ?_), r⟩
          refine rh1.of (rX32_reduce_165 hm _ _ _ _ _ _ ?_)
          exact ⟨fun z => absurd z.2 t0, fun _ => ⟨⟨by omega, by omega⟩, rh1.s E HP⟩⟩
  obtain ⟨B', E3, M3, g3⟩ := key n.toNat 0 X2 (by omega) (by decide) (fun a c a0 a1 => by omega) (fun a c a0 a1 c0 c1 => M2 a c a0 a1 c0 c1) g2
  refine ⟨B', eC.of1 (rC1.of (by decide) (LE0 rfl) ?_), M3, g3⟩
  refine rh1.of (rX32_reduce_0 hm _ _ _ _ ?_)
  refine rh1.s E1 ?_
  refine rh1.of (rX32_reduce_3 hm _ _ _ _ _ ?_)
  rw [M1 u u hu.1 hu.2 hu.1 (by omega)]
  refine ⟨fun z => absurd z (by decide), fun _ => ⟨⟨by omega, by omega⟩, rh1.s (vX32_reduce_79 (c_inverse hm tr1 X1) (LE0 rfl)) ?_⟩⟩
  refine rh1.of (rX32_reduce_82 hm _ _ _ _ ?_)
  refine rh1.s E2 ?_
  refine rh1.of (rX32_reduce_87 hm _ _ _ _ _ ?_)
  refine ⟨fun z => absurd z (by decide), fun _ => rh1.s E3 ?_⟩
  refine rh1.of (rX32_reduce_132 hm _ _ _ _ ?_)
  exact ⟨fun z => by omega, fun _ => ⟨rfl, rfl⟩⟩
end Reduce
