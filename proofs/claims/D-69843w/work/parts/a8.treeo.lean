/-! ===== LAYER 2: tree ===== -/
section TreeO
variable {wh wm : rhW}
theorem Trd.fx {N : Nat} {nd lt G : Int → Int} {a0 b0 : Int} {a b c a' b' c' : Int → Int} (T : Trd N nd lt G a0 a b c) (e0 : b0 = a0) (e1 : a' = a) (e2 : b' = b) (e3 : c' = c) : Trd N nd lt G b0 a' b' c' := by rw [e0, e1, e2, e3]; exact T
theorem q_pair (hh : rh_hs wh) (hm : rh_ms wm) {N : Nat} {nd lt G : Int → Int} {face n my : Int} (Mh Mm : rhM) (Th : Trd N nd lt G (Mh 41 0) (Mh 55) (Mh 43) (Mh 47)) (Tm : Trd N nd lt G (Mm 0 89) (Mm 81) (Mm 64) (Mm 68)) (hXh : ∀ c, 0 ≤ c → c < 128 → Mh 56 c = hrc nd lt n N c) (hXm : ∀ c, 0 ≤ c → c < 128 → Mm 82 c = hrc nd lt n N c) (hmy : my = mny nd n N) :
    ∀ (m : Nat) (k t b e w : Int) (A B : rhM), k + m = 19 → 0 ≤ k → frx (fun c _ => c = 57) Mh A → frx (fun c j => c = 83 ∨ (c = 0 ∧ 112 ≤ j ∧ j ≤ 114)) Mm B → B 0 112 = e → (e ≠ -1 → B 0 113 = w) → (0 ≤ t ∧ t ≤ 864000000) → (0 < b ∧ b ≤ 22500) → (e = -1 ∨ ((0 ≤ e ∧ e < k) ∧ Cnd nd (fun f => G (19 * f + e)) n N N w)) → ∃ t' b' e' w' A' B', eS wh YX17_part 1 17 [(0, 2, 41), (1, 0, face), (2, 0, n), (5, 0, my), (6, 1, t), (8, 1, b), (10, 0, e), (11, 0, w), (12, 0, k)] [] A 17 [(0, 2, 41), (1, 0, face), (2, 0, n), (5, 0, my), (6, 1, t'), (8, 1, b'), (10, 0, e'), (11, 0, w'), (12, 0, 19)] [] A' ∧ eS wm YX32_findQuestion 1 18 [(0, 2, 0), (1, 0, n), (2, 0, my), (3, 1, t), (5, 1, b), (7, 0, k)] [] B 18 [(0, 2, 0), (1, 0, n), (2, 0, my), (3, 1, t'), (5, 1, b'), (7, 0, 19)] [] B' ∧ frx (fun c _ => c = 57) Mh A' ∧ frx (fun c j => c = 83 ∨ (c = 0 ∧ 112 ≤ j ∧ j ≤ 114)) Mm B' ∧ B' 0 112 = e' ∧ (e' ≠ -1 → B' 0 113 = w') ∧ (e' = -1 ∨ ((0 ≤ e' ∧ e' < 19) ∧ Cnd nd (fun f => G (19 * f + e')) n N N w')) := by
  intro m
  induction m with
  | zero =>
    intro k t b e w A B hk k0 fA fB b1 b2 h0 h1 hI
    have : k = 19 := (by omega)
    rw [this] at hI ⊢
    exact ⟨t, b, e, w, A, B, eS.rf, eS.rf, fA, fB, b1, b2, hI⟩
  | succ m ih =>
    intro k t b e w A B hk k0 fA fB b1 b2 h0 h1 hI
    have ek : e ≠ k := by rcases hI with h | h <;> omega
    obtain ⟨t1, c1, e1, w1, A1, EA, fA1, S1⟩ := h_feat hh (face := face) (n := n) (my := my) (k := k) (t0 := t) (b0 := b) (e0 := e) (w0 := w) ⟨by omega, by omega⟩ A (Th.fx (fA _ _ (by omega)) (fA.cell (fun j => (by omega))) (fA.cell (fun j => (by omega))) (fA.cell (fun j => (by omega)))) (fun c c0 c1 => by rw [fA _ _ (by omega)]; exact hXh c c0 c1) hmy h0 h1 ek
    obtain ⟨t2, c2, B1, EB, fB1, S2⟩ := m_feat hm (n := n) (my := my) (k := k) (t0 := t) (b0 := b) ⟨by omega, by omega⟩ B (Tm.fx (fB _ _ (by omega)) (fB.cell (fun j => (by omega))) (fB.cell (fun j => (by omega))) (fB.cell (fun j => (by omega)))) (fun c c0 c1 => by rw [fB _ _ (by omega)]; exact hXm c c0 c1) hmy h0 h1 (by rw [b1]; exact ek)
    rw [b1] at S2
    obtain ⟨u1, u2, u3, u4⟩ := S1.u S2 (fun z => (b2 z).symm)
    rw [← u1, ← u2] at EB
    have bd := S1.bd Th.2.1 (fun v hv => hv.p (Int.le_refl _)) h0 h1
    have hI1 : e1 = -1 ∨ ((0 ≤ e1 ∧ e1 < k + 1) ∧ Cnd nd (fun f => G (19 * f + e1)) n N N w1) := by
      rcases S1 with ⟨-, -, s1, s2, -⟩ | ⟨s1, s2, -⟩
      · rw [s1, s2]
        rcases hI with h | h
        · exact .inl h
        · exact .inr ⟨⟨by omega, by omega⟩, h.2⟩
      · rw [s1]; exact .inr ⟨⟨by omega, by omega⟩, s2⟩
    obtain ⟨t', b', e', w', A', B', EA', EB', r⟩ := ih (k + 1) t1 c1 e1 w1 A1 B1 (by omega) (by omega) (fA.tr fA1) (fB.tr fB1) u3.symm (fun z => (u4 z).symm) bd.1 bd.2 hI1
    exact ⟨t', b', e', w', A', B', EA.tr EA', EB.tr EB', r⟩
theorem h_look (hh : rh_hs wh) {N : Nat} {nd lt G : Int → Int} {face n : Int} (M : rhM) (T : Trd N nd lt G (M 41 0) (M 55) (M 43) (M 47)) :
    ∃ A, eS wh YX17_look 2 0 (rh_lo 0 [(2, 41), (0, face), (0, n)]) [] M 83 [(0, 2, 41), (1, 0, face), (2, 0, n), (3, 0, mny nd n N), (4, 0, amx (hrc nd lt n N) 128), (5, 1, sqs (hrc nd lt n N) 128), (7, 0, 128)] [] A ∧ frx (fun c _ => c = 56) M A ∧ ∀ c, 0 ≤ c → c < 128 → A 56 c = hrc nd lt n N c := by
  obtain ⟨t0, t1, t2⟩ := T
  have cb : ∀ c, 0 ≤ hrc nd lt n N c ∧ hrc nd lt n N c ≤ 150 := fun c => by
    have := ctp_b (fun f => nd f = n ∧ lt f = c) N
    unfold hrc; omega
  have v : ∀ (A : rhM), (∀ c, 0 ≤ c → c < 128 → A 56 c = hrc nd lt n N c) → ∀ (m u : Nat), u + m = 128 → eS wh YX17_look 2 83 [(0, 2, 41), (1, 0, face), (2, 0, n), (3, 0, mny nd n N), (4, 0, amx (hrc nd lt n N) u), (5, 1, sqs (hrc nd lt n N) u), (7, 0, (u : Int))] [] A 83 [(0, 2, 41), (1, 0, face), (2, 0, n), (3, 0, mny nd n N), (4, 0, amx (hrc nd lt n N) 128), (5, 1, sqs (hrc nd lt n N) 128), (7, 0, 128)] [] A := by
    intro A hA m
    induction m with
    | zero =>
      intro u hu
      rw [show u = 128 by omega]
      exact eS.rf
    | succ m ih =>
      intro u hu
      refine eS.of (fun P HP => ?_)
      have b1 := sqs_b (h := hrc nd lt n N) u (fun c _ _ => cb c)
      have p1 := mb2 (cb u).1 (cb u).2 (cb u).1 (cb u).2
      have ab := amx_b (h := hrc nd lt n N) u
      refine rh1.of (rX17_look_83 hh _ _ _ _ _ _ _ ?_)
      rw [hA u (by omega) (by omega), hA (amx (hrc nd lt n N) u) (by omega) (by omega)]
      refine ⟨fun _ => ⟨⟨by omega, by omega⟩, ⟨by omega, by omega⟩, ?_⟩, fun y => by omega⟩
      intro x hx
      refine ⟨⟨by omega, by omega⟩, ⟨by omega, by omega⟩, ?_⟩
      rintro _ rfl
      rw [hx]
      exact ⟨⟨by omega, by omega⟩, ⟨by omega, by omega⟩, rh1.s (ih (u + 1) (by omega)) HP⟩
  have w : ∀ (m j : Nat) (A : rhM), j + m = N → frx (fun c _ => c = 56) M A → (∀ c, 0 ≤ c → c < 128 → A 56 c = ctp (fun f => nd f = n ∧ lt f = c) j) → ∃ A', eS wh YX17_look 2 29 [(0, 2, 41), (1, 0, face), (2, 0, n), (3, 0, ctp (fun f => nd f = n) j), (4, 0, (j : Int))] [] A 83 [(0, 2, 41), (1, 0, face), (2, 0, n), (3, 0, mny nd n N), (4, 0, amx (hrc nd lt n N) 128), (5, 1, sqs (hrc nd lt n N) 128), (7, 0, 128)] [] A' ∧ frx (fun c _ => c = 56) M A' ∧ ∀ c, 0 ≤ c → c < 128 → A' 56 c = hrc nd lt n N c := by
    intro m
    induction m with
    | zero =>
      intro j A hj f hA
      have e : j = N := (by omega)
      rw [e] at hA ⊢
      refine ⟨A, eS.of (fun P HP => ?_), f, hA⟩
      refine rh1.of (rX17_look_29 hh _ _ _ _ _ ?_)
      rw [f 41 0 (by omega), t0]
      exact ⟨fun y => by omega, fun _ => rh1.s (v A hA 128 0 (by omega)) HP⟩
    | succ m ih =>
      intro j A hj f hA
      obtain ⟨g1, g2, g3, g4⟩ := t2 j (by omega) (by omega)
      have a1 := hA (lt j) (by omega) (by omega)
      have b1 := ctp_b (fun f => nd f = n ∧ lt f = lt j) j
      have b2 := ctp_b (fun f => nd f = n) j
      by_cases q : nd j = n
      · obtain ⟨A', E, f', h'⟩ := ih (j + 1) (rh_set A 56 (lt j) (ctp (fun f => nd f = n ∧ lt f = lt j) j + 1)) (by omega) (f.st rfl) (fun c c0 c1 => by
          rw [hst_t (P := fun f => nd f = n) (lt := lt) q c]
          by_cases y : c = lt j
          · rw [if_pos y, y, rh_set_s]
          · rw [if_neg y, rh_set_j y]; exact hA c c0 c1)
        refine ⟨A', eS.of (fun P HP => ?_), f', h'⟩
        rw [ctp_t (P := fun f => nd f = n) q] at E
        refine rh1.of (rX17_look_29 hh _ _ _ _ _ ?_)
        rw [f 41 0 (by omega), t0, f 55 _ (by omega), g1, f 43 _ (by omega), g2, a1]
        refine ⟨fun _ => ⟨⟨by omega, by omega⟩, fun _ => ⟨⟨by omega, by omega⟩, ⟨by omega, by omega⟩, ?_⟩, fun y => absurd q y⟩, fun y => by omega⟩
        rintro _ rfl
        exact ⟨⟨by omega, by omega⟩, ⟨by omega, by omega⟩, ⟨by omega, by omega⟩, ⟨by omega, by omega⟩, rh1.s E HP⟩
      · obtain ⟨A', E, f', h'⟩ := ih (j + 1) A (by omega) f (fun c c0 c1 => by
          rw [hst_f (P := fun f => nd f = n) (lt := lt) q c]; exact hA c c0 c1)
        refine ⟨A', eS.of (fun P HP => ?_), f', h'⟩
        rw [ctp_f (P := fun f => nd f = n) q] at E
        refine rh1.of (rX17_look_29 hh _ _ _ _ _ ?_)
        rw [f 41 0 (by omega), t0, f 55 _ (by omega), g1]
        exact ⟨fun _ => ⟨⟨by omega, by omega⟩, fun y => absurd y q, fun _ => ⟨⟨by omega, by omega⟩, rh1.s E HP⟩⟩, fun y => by omega⟩
  have z : ∀ (m : Nat) (c : Int) (A : rhM), c + m = 128 → 0 ≤ c → frx (fun c _ => c = 56) M A → (∀ j, 0 ≤ j → j < c → A 56 j = 0) → ∃ A', eS wh YX17_look 2 2 [(0, 2, 41), (1, 0, face), (2, 0, n), (3, 0, c)] [] A 83 [(0, 2, 41), (1, 0, face), (2, 0, n), (3, 0, mny nd n N), (4, 0, amx (hrc nd lt n N) 128), (5, 1, sqs (hrc nd lt n N) 128), (7, 0, 128)] [] A' ∧ frx (fun c _ => c = 56) M A' ∧ ∀ c, 0 ≤ c → c < 128 → A' 56 c = hrc nd lt n N c := by
    intro m
    induction m with
    | zero =>
      intro c A hc c0 f hA
      obtain ⟨A', E, r⟩ := w N 0 A (by omega) f (fun j j0 j1 => hA j j0 (by omega))
      refine ⟨A', eS.of (fun P HP => ?_), r⟩
      refine rh1.of (rX17_look_2 hh _ _ _ _ ?_)
      exact ⟨fun y => by omega, fun _ => rh1.s E HP⟩
    | succ m ih =>
      intro c A hc c0 f hA
      obtain ⟨A', E, r⟩ := ih (c + 1) (rh_set A 56 c 0) (by omega) (by omega) (f.st rfl) (fun j j0 j1 => by
        rw [rh_sets, if_pos rfl]
        split
        · rfl
        · exact hA j j0 (by omega))
      refine ⟨A', eS.of (fun P HP => ?_), r⟩
      refine rh1.of (rX17_look_2 hh _ _ _ _ ?_)
      exact ⟨fun _ => ⟨⟨by omega, by omega⟩, ⟨by omega, by omega⟩, rh1.s E HP⟩, fun y => by omega⟩
  obtain ⟨A, E, r⟩ := z 128 0 M (by omega) (by omega) frx.rf (fun j j0 j1 => by omega)
  refine ⟨A, eS.of (fun P HP => ?_), r⟩
  refine rh1.of (rX17_look_0 hh _ _ _ ?_)
  exact rh1.s E HP
theorem m_look (hm : rh_ms wm) {N : Nat} {nd lt G : Int → Int} {face a s n : Int} (hn : n < s) (M : rhM) (T : Trd N nd lt G (M 0 89) (M 81) (M 64) (M 68)) :
    ∃ A, eS wm YX32_tree 2 83 [(0, 2, 0), (1, 0, face), (2, 0, a), (3, 0, s), (4, 0, n)] [] M 148 [(0, 2, 0), (1, 0, face), (2, 0, a), (3, 0, s), (4, 0, n), (5, 0, mny nd n N), (6, 0, amx (hrc nd lt n N) 128), (7, 0, ctp (fun c => 0 < hrc nd lt n N c) 128), (8, 0, 128)] [] A ∧ frx (fun c _ => c = 82) M A ∧ ∀ c, 0 ≤ c → c < 128 → A 82 c = hrc nd lt n N c := by
  obtain ⟨r1, A1, K1, -, f1, v1⟩ := c_countLetters hm (n := n) M T
  obtain ⟨t0, t1, t2⟩ := T
  have h0 : ¬ (0 < hrc nd lt n N 0) := fun y => by
    obtain ⟨f, f0, f1, -, f3⟩ := ctp_pos.mp y
    have := (t2 f f0 f1).2.2.1
    omega
  have v : ∀ (m u : Nat), u + m = 128 → 1 ≤ u → eS wm YX32_tree 2 148 [(0, 2, 0), (1, 0, face), (2, 0, a), (3, 0, s), (4, 0, n), (5, 0, mny nd n N), (6, 0, amx (hrc nd lt n N) u), (7, 0, ctp (fun c => 0 < hrc nd lt n N c) u), (8, 0, (u : Int))] [] A1 148 [(0, 2, 0), (1, 0, face), (2, 0, a), (3, 0, s), (4, 0, n), (5, 0, mny nd n N), (6, 0, amx (hrc nd lt n N) 128), (7, 0, ctp (fun c => 0 < hrc nd lt n N c) 128), (8, 0, 128)] [] A1 := by
    intro m
    induction m with
    | zero =>
      intro u hu _
      rw [show u = 128 by omega]
      exact eS.rf
    | succ m ih =>
      intro u hu u1
      refine eS.of (fun P HP => ?_)
      have ab := amx_b (h := hrc nd lt n N) u
      have cb := ctp_b (fun c => 0 < hrc nd lt n N c) u
      refine rh1.of (rX32_tree_148 hm _ _ _ _ _ _ _ _ _ ?_)
      rw [v1 u (by omega) (by omega), v1 (amx (hrc nd lt n N) u) (by omega) (by omega)]
      refine ⟨fun _ => ⟨⟨by omega, by omega⟩, ⟨by omega, by omega⟩, ?_⟩, fun y => by omega⟩
      intro x hx
      refine ⟨⟨by omega, by omega⟩, ?_⟩
      intro x2 hx2
      have : rI x2 := by
        rw [hx2]
        by_cases q : 0 < hrc nd lt n N u
        · rw [rh_if_t q]; omega
        · rw [rh_if_f q]; omega
      rw [hx2] at this ⊢
      rw [hx]
      exact ⟨this, ⟨by omega, by omega⟩, rh1.s (ih (u + 1) (by omega) (by omega)) HP⟩
  have w : ∀ (m j : Nat), j + m = N → eS wm YX32_tree 2 95 [(0, 2, 0), (1, 0, face), (2, 0, a), (3, 0, s), (4, 0, n), (5, 0, ctp (fun f => nd f = n) j), (6, 0, (j : Int))] [] M 148 [(0, 2, 0), (1, 0, face), (2, 0, a), (3, 0, s), (4, 0, n), (5, 0, mny nd n N), (6, 0, amx (hrc nd lt n N) 128), (7, 0, ctp (fun c => 0 < hrc nd lt n N c) 128), (8, 0, 128)] [] A1 := by
    intro m
    induction m with
    | zero =>
      intro j hj
      rw [show j = N by omega]
      refine eS.of (fun P HP => ?_)
      refine rh1.of (rX32_tree_95 hm _ _ _ _ _ _ _ ?_)
      rw [t0]
      refine ⟨fun y => by omega, fun _ => ?_⟩
      refine rh1.s (vX32_tree_135 hm K1 (LE0 rfl)) ?_
      refine rh1.of (rX32_tree_138 hm _ _ _ _ _ _ _ ?_)
      have z := v 127 1 (by omega) (by omega)
      have e1 : amx (hrc nd lt n N) 1 = 0 := by
        simp only [amx]; exact rh_if_f (fun y => Int.lt_irrefl _ y)
      have e2 : ctp (fun c => 0 < hrc nd lt n N c) 1 = 0 := ctp_f (P := fun c => 0 < hrc nd lt n N c) (j := 0) h0
      rw [e1, e2] at z
      exact rh1.s z HP
    | succ m ih =>
      intro j hj
      obtain ⟨g1, -⟩ := t2 j (by omega) (by omega)
      have b2 := ctp_b (fun f => nd f = n) j
      refine eS.of (fun P HP => ?_)
      refine rh1.of (rX32_tree_95 hm _ _ _ _ _ _ _ ?_)
      rw [t0, g1]
      refine ⟨fun _ => ⟨⟨by omega, by omega⟩, ?_⟩, fun y => by omega⟩
      intro x2 hx2
      have : rI x2 := by
        rw [hx2]
        by_cases q : nd j = n
        · rw [rh_if_t q]; omega
        · rw [rh_if_f q]; omega
      rw [hx2] at this ⊢
      exact ⟨this, ⟨by omega, by omega⟩, rh1.s (ih (j + 1) (by omega)) HP⟩
  refine ⟨A1, eS.of (fun P HP => ?_), f1, v1⟩
  refine rh1.of (rX32_tree_83 hm _ _ _ _ _ ?_)
  exact ⟨fun _ => rh1.s (w N 0 (by omega)) HP, fun y => absurd hn y⟩
/-- forms after a parting -/
def ndn (nd G : Int → Int) (n e w s f : Int) : Int := if nd f = n then (if G (19 * f + e) ≤ w then s else s + 1) else nd f
theorem h_split (hh : rh_hs wh) {N : Nat} {nd lt G : Int → Int} {face n e w s : Int} (hf : 0 ≤ face ∧ face < 4) (he : 0 ≤ e ∧ e < 19) (hs : 0 ≤ s ∧ s < 300) (M : rhM) (T : Trd N nd lt G (M 41 0) (M 55) (M 43) (M 47)) (h49 : M 49 face = s) :
    ∃ A, (∀ P : Int → rhM → Prop, P 0 A → rh1 wh YX17_part 1 344 [(0, 2, 41), (1, 0, face), (2, 0, n), (10, 0, e), (11, 0, w), (13, 0, 0)] [] M P) ∧ frx (fun c j => c = 55 ∨ (c = 49 ∧ j = face)) M A ∧ A 49 face = s + 2 ∧ ∀ f : Int, 0 ≤ f → f < N → A 55 f = ndn nd G n e w s f := by
  obtain ⟨t0, t1, t2⟩ := T
  have q : ∀ (m j : Nat) (A : rhM), j + m = N → frx (fun c _ => c = 55) M A → (∀ f : Int, 0 ≤ f → f < N → A 55 f = if f < j then ndn nd G n e w s f else nd f) → ∃ A', (∀ P : Int → rhM → Prop, P 0 A' → rh1 wh YX17_part 1 344 [(0, 2, 41), (1, 0, face), (2, 0, n), (10, 0, e), (11, 0, w), (13, 0, (j : Int))] [] A P) ∧ frx (fun c j => c = 55 ∨ (c = 49 ∧ j = face)) M A' ∧ A' 49 face = s + 2 ∧ ∀ f : Int, 0 ≤ f → f < N → A' 55 f = ndn nd G n e w s f := by
    intro m
    induction m with
    | zero =>
      intro j A hj f hA
      refine ⟨rh_set A 49 face (s + 2), fun P HP => ?_, (f.w (fun c j h => .inl h)).st (.inr ⟨rfl, rfl⟩), rh_set_s _ _ _ _, fun i i0 i1 => ?_⟩
      · refine rh1.of (rX17_part_344 hh _ _ _ _ _ _ ?_)
        rw [f 41 0 (by omega), t0, f 49 _ (by omega), h49]
        exact ⟨fun y => by omega, fun _ => ⟨hf, hf, ⟨by omega, by omega⟩, HP⟩⟩
      · rw [rh_set_a (by omega), hA i i0 i1, if_pos (by omega)]
    | succ m ih =>
      intro j A hj f hA
      obtain ⟨g1, g2, g3, g4⟩ := t2 j (by omega) (by omega)
      have g5 := (g4 e he.1 he.2).1
      have ej : A 55 j = nd j := by rw [hA j (by omega) (by omega), if_neg (by omega)]
      by_cases y : nd j = n
      · obtain ⟨A', E, r⟩ := ih (j + 1) (rh_set A 55 j (ndn nd G n e w s j)) (by omega) (f.st rfl) (fun i i0 i1 => by
          by_cases z : i = j
          · rw [z, rh_set_s, if_pos (by omega)]
          · rw [rh_set_j z, hA i i0 i1]
            by_cases u : i < j
            · rw [if_pos u, if_pos (by omega)]
            · rw [if_neg u, if_neg (by omega)])
        refine ⟨A', fun P HP => ?_, r⟩
        refine rh1.of (rX17_part_344 hh _ _ _ _ _ _ ?_)
        rw [f 41 0 (by omega), t0, f 49 _ (by omega), h49, ej, f 47 _ (by omega), g5]
        refine ⟨fun _ => ⟨⟨by omega, by omega⟩, fun _ => ⟨hf, ⟨by omega, by omega⟩, ?_⟩, fun z => absurd y z⟩, fun z => by omega⟩
        intro x hx
        have ex : x = ndn nd G n e w s j := by
          rw [hx]
          unfold ndn
          rw [if_pos y]
          by_cases u : w < G (19 * (j : Int) + e)
          · rw [rh_if_t u, if_neg (by omega)]
          · rw [rh_if_f u, if_pos (by omega)]; omega
        have bx : rI x := by
          rw [hx]
          by_cases u : w < G (19 * (j : Int) + e)
          · rw [rh_if_t u]; omega
          · rw [rh_if_f u]; omega
        rw [← ex] at E
        exact ⟨⟨by omega, by omega⟩, bx, ⟨by omega, by omega⟩, E P HP⟩
      · obtain ⟨A', E, r⟩ := ih (j + 1) A (by omega) f (fun i i0 i1 => by
          rw [hA i i0 i1]
          by_cases u : i < j
          · rw [if_pos u, if_pos (by omega)]
          · rw [if_neg u]
            by_cases z : i = j
            · rw [if_pos (by omega), z]
              unfold ndn
              rw [if_neg y]
            · rw [if_neg (by omega)])
        refine ⟨A', fun P HP => ?_, r⟩
        refine rh1.of (rX17_part_344 hh _ _ _ _ _ _ ?_)
        rw [f 41 0 (by omega), t0, ej]
        exact ⟨fun _ => ⟨⟨by omega, by omega⟩, fun z => absurd z y, fun _ => ⟨⟨by omega, by omega⟩, E P HP⟩⟩, fun z => by omega⟩
  exact q N 0 M (by omega) frx.rf (fun f f0 f1 => by rw [(t2 f f0 f1).1, if_neg (by omega)])
theorem m_split (hm : rh_ms wm) {N : Nat} {nd lt G : Int → Int} {face a n e w s : Int} (he : 0 ≤ e ∧ e < 19) (hs : 0 ≤ s ∧ s < 300) (hn : 0 ≤ n ∧ n < s) (M : rhM) (T : Trd N nd lt G (M 0 89) (M 81) (M 64) (M 68)) (h1 : M 0 112 = e) (h2 : M 0 113 = w) :
    ∃ A, eS wm YX32_tree 2 316 [(0, 2, 0), (1, 0, face), (2, 0, a), (3, 0, s), (4, 0, n), (8, 0, 0)] [] M 83 [(0, 2, 0), (1, 0, face), (2, 0, a), (3, 0, s + 2), (4, 0, n + 1)] [] A ∧ frx (fun c j => c = 81) M A ∧ ∀ f : Int, 0 ≤ f → f < N → A 81 f = ndn nd G n e w s f := by
  obtain ⟨t0, t1, t2⟩ := T
  have q : ∀ (m j : Nat) (A : rhM), j + m = N → frx (fun c _ => c = 81) M A → (∀ f : Int, 0 ≤ f → f < N → A 81 f = if f < j then ndn nd G n e w s f else nd f) → ∃ A', eS wm YX32_tree 2 316 [(0, 2, 0), (1, 0, face), (2, 0, a), (3, 0, s), (4, 0, n), (8, 0, (j : Int))] [] A 83 [(0, 2, 0), (1, 0, face), (2, 0, a), (3, 0, s + 2), (4, 0, n + 1)] [] A' ∧ frx (fun c _ => c = 81) M A' ∧ ∀ f : Int, 0 ≤ f → f < N → A' 81 f = ndn nd G n e w s f := by
    intro m
    induction m with
    | zero =>
      intro j A hj f hA
      refine ⟨A, eS.of (fun P HP => ?_), f, fun i i0 i1 => ?_⟩
      · refine rh1.of (rX32_tree_316 hm _ _ _ _ _ _ ?_)
        rw [f 0 89 (by omega), t0]
        exact ⟨fun y => by omega, fun _ => ⟨⟨by omega, by omega⟩, ⟨by omega, by omega⟩, HP⟩⟩
      · rw [hA i i0 i1, if_pos (by omega)]
    | succ m ih =>
      intro j A hj f hA
      obtain ⟨g1, g2, g3, g4⟩ := t2 j (by omega) (by omega)
      have g5 := (g4 e he.1 he.2).1
      have ej : A 81 j = nd j := by rw [hA j (by omega) (by omega), if_neg (by omega)]
      by_cases y : nd j = n
      · obtain ⟨A', E, r⟩ := ih (j + 1) (rh_set A 81 j (ndn nd G n e w s j)) (by omega) (f.st rfl) (fun i i0 i1 => by
          by_cases z : i = j
          · rw [z, rh_set_s, if_pos (by omega)]
          · rw [rh_set_j z, hA i i0 i1]
            by_cases u : i < j
            · rw [if_pos u, if_pos (by omega)]
            · rw [if_neg u, if_neg (by omega)])
        refine ⟨A', eS.of (fun P HP => ?_), r⟩
        refine rh1.of (rX32_tree_316 hm _ _ _ _ _ _ ?_)
        rw [f 0 89 (by omega), t0, ej, f 0 112 (by omega), h1, f 0 113 (by omega), h2, f 68 _ (by omega), g5]
        refine ⟨fun _ => ⟨⟨by omega, by omega⟩, fun _ => ⟨⟨by omega, by omega⟩, ?_⟩, fun z => absurd y z⟩, fun z => by omega⟩
        intro x hx
        have ex : x = ndn nd G n e w s j := by
          rw [hx]
          unfold ndn
          rw [if_pos y]
          by_cases u : G (19 * (j : Int) + e) ≤ w
          · rw [rh_if_t u, if_pos u]
          · rw [rh_if_f u, if_neg u]
        have bx : rI x := by
          rw [hx]
          by_cases u : G (19 * (j : Int) + e) ≤ w
          · rw [rh_if_t u]; omega
          · rw [rh_if_f u]; omega
        rw [← ex] at E
        exact ⟨⟨by omega, by omega⟩, bx, ⟨by omega, by omega⟩, rh1.s E HP⟩
      · obtain ⟨A', E, r⟩ := ih (j + 1) A (by omega) f (fun i i0 i1 => by
          rw [hA i i0 i1]
          by_cases u : i < j
          · rw [if_pos u, if_pos (by omega)]
          · rw [if_neg u]
            by_cases z : i = j
            · rw [if_pos (by omega), z]
              unfold ndn
              rw [if_neg y]
            · rw [if_neg (by omega)])
        refine ⟨A', eS.of (fun P HP => ?_), r⟩
        refine rh1.of (rX32_tree_316 hm _ _ _ _ _ _ ?_)
        rw [f 0 89 (by omega), t0, ej]
        exact ⟨fun _ => ⟨⟨by omega, by omega⟩, fun z => absurd z y, fun _ => ⟨⟨by omega, by omega⟩, rh1.s E HP⟩⟩, fun z => by omega⟩
  exact q N 0 M (by omega) frx.rf (fun f f0 f1 => by rw [(t2 f f0 f1).1, if_neg (by omega)])
end TreeO
