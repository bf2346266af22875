/-! ===== LAYER 2: trees, the house ===== -/
section TreeH
variable {wh wm : rhW}
theorem ctp_t {P : Int → Prop} {j : Nat} (h : P j) : ctp P (j + 1) = ctp P j + 1 := by simp only [ctp]; rw [rh_if_t h]
theorem ctp_f {P : Int → Prop} {j : Nat} (h : ¬ P j) : ctp P (j + 1) = ctp P j := by simp only [ctp]; rw [rh_if_f h, Int.add_zero]
theorem hst_t {P : Int → Prop} {lt : Int → Int} {j : Nat} (h : P j) (c : Int) : ctp (fun f => P f ∧ lt f = c) (j + 1) = if c = lt j then ctp (fun f => P f ∧ lt f = c) j + 1 else ctp (fun f => P f ∧ lt f = c) j := by
  by_cases q : c = lt j
  · rw [if_pos q]; exact ctp_t ⟨h, q.symm⟩
  · rw [if_neg q]; exact ctp_f (fun z => q z.2.symm)
theorem hst_f {P : Int → Prop} {lt : Int → Int} {j : Nat} (h : ¬ P j) (c : Int) : ctp (fun f => P f ∧ lt f = c) (j + 1) = ctp (fun f => P f ∧ lt f = c) j := ctp_f (fun z => h z.1)
/-- forms and their nodes at hand -/
def Trd (N : Nat) (nd lt G : Int → Int) (a0 : Int) (a55 a43 a47 : Int → Int) : Prop := a0 = N ∧ N ≤ 150 ∧ ∀ f : Int, 0 ≤ f → f < N → a55 f = nd f ∧ a43 f = lt f ∧ (33 ≤ lt f ∧ lt f ≤ 126) ∧ ∀ k, 0 ≤ k → k < 19 → a47 (19 * f + k) = G (19 * f + k) ∧ 0 ≤ G (19 * f + k) ∧ G (19 * f + k) ≤ 6144
noncomputable def hrc (nd lt : Int → Int) (n : Int) (N : Nat) (c : Int) : Int := ctp (fun f => nd f = n ∧ lt f = c) N
noncomputable def lwc (nd lt ft : Int → Int) (n : Int) (N : Nat) (v c : Int) : Int := ctp (fun f => (nd f = n ∧ ft f ≤ v) ∧ lt f = c) N
noncomputable def lwr (nd ft : Int → Int) (n : Int) (N : Nat) (v : Int) : Int := ctp (fun f => nd f = n ∧ ft f ≤ v) N
noncomputable def mny (nd : Int → Int) (n : Int) (N : Nat) : Int := ctp (fun f => nd f = n) N
noncomputable def nNN (nd lt ft : Int → Int) (n : Int) (N : Nat) (v : Int) : Int := sqs (lwc nd lt ft n N v) 128 * (mny nd n N - lwr nd ft n N v) + sqs (fun c => hrc nd lt n N c - lwc nd lt ft n N v c) 128 * lwr nd ft n N v
noncomputable def nBB (nd ft : Int → Int) (n : Int) (N : Nat) (v : Int) : Int := lwr nd ft n N v * (mny nd n N - lwr nd ft n N v)
/-- values that may part -/
def Cnd (nd ft : Int → Int) (n : Int) (N : Nat) (j : Int) (v : Int) : Prop := ∃ g : Int, 0 ≤ g ∧ g < j ∧ nd g = n ∧ ft g = v ∧ lwr nd ft n N v < mny nd n N
theorem lwc_b {nd lt ft : Int → Int} {n : Int} {N : Nat} (v c : Int) (h : N ≤ 150) : (0 ≤ lwc nd lt ft n N v c ∧ lwc nd lt ft n N v c ≤ 150) ∧ (0 ≤ hrc nd lt n N c - lwc nd lt ft n N v c ∧ hrc nd lt n N c - lwc nd lt ft n N v c ≤ 150) := by
  have h1 := ctp_b (fun f => (nd f = n ∧ ft f ≤ v) ∧ lt f = c) N
  have h2 := ctp_b (fun f => nd f = n ∧ lt f = c) N
  have h3 := ctp_le (P := fun f => (nd f = n ∧ ft f ≤ v) ∧ lt f = c) (Q := fun f => nd f = n ∧ lt f = c) N (fun j _ _ z => ⟨z.1.1, z.2⟩)
  unfold lwc hrc
  omega
theorem lwr_b {nd ft : Int → Int} {n : Int} {N : Nat} (v : Int) (h : N ≤ 150) : 0 ≤ lwr nd ft n N v ∧ lwr nd ft n N v ≤ mny nd n N ∧ mny nd n N ≤ 150 := by
  have h1 := ctp_b (fun f => nd f = n ∧ ft f ≤ v) N
  have h2 := ctp_b (fun f => nd f = n) N
  have h3 := ctp_le (P := fun f => nd f = n ∧ ft f ≤ v) (Q := fun f => nd f = n) N (fun j _ _ z => z.1)
  unfold lwr mny
  omega
theorem nNN_b {nd lt ft : Int → Int} {n : Int} {N : Nat} (v : Int) (h : N ≤ 150) : 0 ≤ nNN nd lt ft n N v ∧ nNN nd lt ft n N v ≤ 864000000 := by
  have b0 := lwr_b (nd := nd) (ft := ft) (n := n) v h
  have b1 := sqs_b (h := lwc nd lt ft n N v) 128 (fun c _ _ => (lwc_b v c h).1)
  have b2 := sqs_b (h := fun c => hrc nd lt n N c - lwc nd lt ft n N v c) 128 (fun c _ _ => (lwc_b v c h).2)
  have m1 := mb2 b1.1 (A := 2880000) (by omega) (show 0 ≤ mny nd n N - lwr nd ft n N v by omega) (B := 150) (by omega)
  have m2 := mb2 b2.1 (A := 2880000) (by omega) b0.1 (B := 150) (by omega)
  unfold nNN
  omega
theorem nBB_b {nd ft : Int → Int} {n : Int} {N : Nat} (v : Int) (h : N ≤ 150) : 0 ≤ nBB nd ft n N v ∧ nBB nd ft n N v ≤ 22500 := by
  have b0 := lwr_b (nd := nd) (ft := ft) (n := n) v h
  have m1 := mb2 b0.1 (A := 150) (by omega) (show 0 ≤ mny nd n N - lwr nd ft n N v by omega) (B := 150) (by omega)
  unfold nBB
  omega
theorem Cnd.p {nd ft : Int → Int} {n : Int} {N : Nat} {j v : Int} (hj : j ≤ N) (h : Cnd nd ft n N j v) : 0 < nBB nd ft n N v := by
  obtain ⟨g, g0, g1, g2, g3, g4⟩ := h
  have : 0 < lwr nd ft n N v := ctp_pos.mpr ⟨g, g0, (by omega), g2, (by omega)⟩
  exact Int.mul_pos this (by omega)
theorem Spt.bd {nd lt ft : Int → Int} {n : Int} {N : Nat} {C : Int → Prop} {k t0 b0 e0 w0 t b e w : Int} (hS : Spt C (nNN nd lt ft n N) (nBB nd ft n N) k t0 b0 e0 w0 t b e w) (h : N ≤ 150) (hC : ∀ v, C v → 0 < nBB nd ft n N v) (h0 : 0 ≤ t0 ∧ t0 ≤ 864000000) (h1 : 0 < b0 ∧ b0 ≤ 22500) : (0 ≤ t ∧ t ≤ 864000000) ∧ (0 < b ∧ b ≤ 22500) := by
  rcases hS with ⟨e1, e2, -⟩ | ⟨-, cw, e1, e2, -⟩
  · rw [e1, e2]; exact ⟨h0, h1⟩
  · rw [e1, e2]; exact ⟨nNN_b w h, hC w cw, (nBB_b w h).2⟩
theorem c_countLow (hh : rh_hs wh) {N : Nat} {nd lt G : Int → Int} {n k v : Int} (hk : 0 ≤ k ∧ k < 19) (M : rhM) (T : Trd N nd lt G (M 41 0) (M 55) (M 43) (M 47)) :
    rC1 wh YX17_countLow 0 [(2, 41), (0, n), (0, k), (0, v)] M (fun r M' => r = lwr nd (fun f => G (19 * f + k)) n N v ∧ frx (fun c _ => c = 57) M M' ∧ ∀ c, 0 ≤ c → c < 128 → M' 57 c = lwc nd lt (fun f => G (19 * f + k)) n N v c) := by
  refine rC1.of (by decide) (LE0 rfl) ?_
  obtain ⟨t0, t1, t2⟩ := T
  generalize hPost : (fun (r : Int) (M' : rhM) => r = lwr nd (fun f => G (19 * f + k)) n N v ∧ frx (fun c _ => c = 57) M M' ∧ ∀ c, 0 ≤ c → c < 128 → M' 57 c = lwc nd lt (fun f => G (19 * f + k)) n N v c) = Post
  have w : ∀ (m j : Nat) (A : rhM), j + m = N → frx (fun c _ => c = 57) M A → (∀ c, 0 ≤ c → c < 128 → A 57 c = ctp (fun f => (nd f = n ∧ G (19 * f + k) ≤ v) ∧ lt f = c) j) → rh1 wh YX17_countLow 0 33 [(0, 2, 41), (1, 0, n), (2, 0, k), (3, 0, v), (4, 0, ctp (fun f => nd f = n ∧ G (19 * f + k) ≤ v) j), (5, 0, (j : Int))] [] A Post := by
    intro m
    induction m with
    | zero =>
      intro j A hj f hA
      refine rh1.of (rX17_countLow_33 hh _ _ _ _ _ _ ?_)
      rw [f 41 0 (by omega), t0]
      refine ⟨fun y => by omega, fun _ => ?_⟩
      rw [← hPost]
      have e : j = N := (by omega)
      rw [e] at hA ⊢
      exact ⟨rfl, f, hA⟩
    | succ m ih =>
      intro j A hj f hA
      obtain ⟨g1, g2, g3, g4⟩ := t2 j (by omega) (by omega)
      have g5 := (g4 k hk.1 hk.2).1
      have a1 := hA (lt j) (by omega) (by omega)
      have b1 := ctp_b (fun f => (nd f = n ∧ G (19 * f + k) ≤ v) ∧ lt f = lt j) j
      have b2 := ctp_b (fun f => nd f = n ∧ G (19 * f + k) ≤ v) j
      refine rh1.of (rX17_countLow_33 hh _ _ _ _ _ _ ?_)
      rw [f 41 0 (by omega), t0, f 55 _ (by omega), g1, f 43 _ (by omega), g2, f 47 _ (by omega), g5, a1]
      refine ⟨fun _ => ⟨⟨by omega, by omega⟩, fun _ => ⟨by omega, by omega⟩, fun q => ⟨⟨by omega, by omega⟩, ⟨by omega, by omega⟩, ?_⟩, fun q => ⟨⟨by omega, by omega⟩, ?_⟩⟩, fun y => by omega⟩
      · rintro _ rfl
        refine ⟨⟨by omega, by omega⟩, ⟨by omega, by omega⟩, ⟨by omega, by omega⟩, ⟨by omega, by omega⟩, ?_⟩
        have z := ih (j + 1) (rh_set A 57 (lt j) (ctp (fun f => (nd f = n ∧ G (19 * f + k) ≤ v) ∧ lt f = lt j) j + 1)) (by omega) (f.st rfl) (fun c c0 c1 => by
          rw [hst_t (P := fun f => nd f = n ∧ G (19 * f + k) ≤ v) (lt := lt) q c]
          by_cases y : c = lt j
          · rw [if_pos y, y, rh_set_s]
          · rw [if_neg y, rh_set_j y]; exact hA c c0 c1)
        rw [ctp_t (P := fun f => nd f = n ∧ G (19 * f + k) ≤ v) q] at z
        exact z
      · have z := ih (j + 1) A (by omega) f (fun c c0 c1 => by
          rw [hst_f (P := fun f => nd f = n ∧ G (19 * f + k) ≤ v) (lt := lt) q c]; exact hA c c0 c1)
        rw [ctp_f (P := fun f => nd f = n ∧ G (19 * f + k) ≤ v) q] at z
        exact z
  have z : ∀ (m : Nat) (c : Int) (A : rhM), c + m = 128 → 0 ≤ c → frx (fun c _ => c = 57) M A → (∀ j, 0 ≤ j → j < c → A 57 j = 0) → rh1 wh YX17_countLow 0 3 [(0, 2, 41), (1, 0, n), (2, 0, k), (3, 0, v), (4, 0, c)] [] A Post := by
    intro m
    induction m with
    | zero =>
      intro c A hc c0 f hA
      refine rh1.of (rX17_countLow_3 hh _ _ _ _ _ ?_)
      exact ⟨fun y => by omega, fun _ => w N 0 A (by omega) f (fun j j0 j1 => hA j j0 (by omega))⟩
    | succ m ih =>
      intro c A hc c0 f hA
      refine rh1.of (rX17_countLow_3 hh _ _ _ _ _ ?_)
      refine ⟨fun _ => ⟨⟨by omega, by omega⟩, ⟨by omega, by omega⟩, ih (c + 1) _ (by omega) (by omega) (f.st rfl) (fun j j0 j1 => ?_)⟩, fun y => by omega⟩
      rw [rh_sets, if_pos rfl]
      split
      · rfl
      · exact hA j j0 (by omega)
  refine rh1.of (rX17_countLow_0 hh _ _ _ _ ?_)
  exact z 128 0 M (by omega) (by omega) frx.rf (fun j j0 j1 => by omega)
theorem h_sum (hh : rh_hs wh) {face n my t b e w k j v lo : Int} {X L : Int → Int} (A : rhM) (hX : ∀ c, 0 ≤ c → c < 128 → A 56 c = X c) (hL : ∀ c, 0 ≤ c → c < 128 → A 57 c = L c) (bL : ∀ c, 0 ≤ c → c < 128 → 0 ≤ L c ∧ L c ≤ 150) (bX : ∀ c, 0 ≤ c → c < 128 → 0 ≤ X c - L c ∧ X c - L c ≤ 150) :
    eS wh YX17_part 1 94 [(0, 2, 41), (1, 0, face), (2, 0, n), (5, 0, my), (6, 1, t), (8, 1, b), (10, 0, e), (11, 0, w), (12, 0, k), (13, 0, j), (14, 0, v), (15, 0, lo), (16, 1, 0), (18, 1, 0), (20, 0, 0)] [] A 94 [(0, 2, 41), (1, 0, face), (2, 0, n), (5, 0, my), (6, 1, t), (8, 1, b), (10, 0, e), (11, 0, w), (12, 0, k), (13, 0, j), (14, 0, v), (15, 0, lo), (16, 1, sqs L 128), (18, 1, sqs (fun c => X c - L c) 128), (20, 0, 128)] [] A := by
  have q : ∀ (m u : Nat), u + m = 128 → eS wh YX17_part 1 94 [(0, 2, 41), (1, 0, face), (2, 0, n), (5, 0, my), (6, 1, t), (8, 1, b), (10, 0, e), (11, 0, w), (12, 0, k), (13, 0, j), (14, 0, v), (15, 0, lo), (16, 1, sqs L u), (18, 1, sqs (fun c => X c - L c) u), (20, 0, (u : Int))] [] A 94 [(0, 2, 41), (1, 0, face), (2, 0, n), (5, 0, my), (6, 1, t), (8, 1, b), (10, 0, e), (11, 0, w), (12, 0, k), (13, 0, j), (14, 0, v), (15, 0, lo), (16, 1, sqs L 128), (18, 1, sqs (fun c => X c - L c) 128), (20, 0, 128)] [] A := by
    intro m
    induction m with
    | zero =>
      intro u hu
      have : u = 128 := (by omega)
      rw [this]
      exact eS.rf
    | succ m ih =>
      intro u hu
      refine eS.of (fun P HP => ?_)
      have b1 := sqs_b (h := L) u (fun c a b => bL c a (by omega))
      have b2 := sqs_b (h := fun c => X c - L c) u (fun c a b => bX c a (by omega))
      have l1 := bL u (by omega) (by omega)
      have l2 := bX u (by omega) (by omega)
      have p1 := mb2 l1.1 l1.2 l1.1 l1.2
      have p2 := mb2 l2.1 l2.2 l2.1 l2.2
      refine rh1.of (rX17_part_94 hh _ _ _ _ _ _ _ _ _ _ _ _ _ _ _ ?_)
      rw [hX u (by omega) (by omega), hL u (by omega) (by omega)]
      refine ⟨fun _ => ⟨⟨by omega, by omega⟩, ⟨by omega, by omega⟩, ?_⟩, fun y => by omega⟩
      rintro _ rfl
      refine ⟨⟨by omega, by omega⟩, ⟨by omega, by omega⟩, ⟨by omega, by omega⟩, ⟨by omega, by omega⟩, ⟨by omega, by omega⟩, ⟨by omega, by omega⟩, ⟨by omega, by omega⟩, ?_⟩
      rintro _ rfl
      refine ⟨⟨by omega, by omega⟩, ⟨by omega, by omega⟩, ?_⟩
      exact rh1.s (ih (u + 1) (by omega)) HP
  exact q 128 0 (by omega)
theorem h_feat (hh : rh_hs wh) {N : Nat} {nd lt G : Int → Int} {face n my k t0 b0 e0 w0 : Int} (hk : 0 ≤ k ∧ k < 19) (M : rhM) (T : Trd N nd lt G (M 41 0) (M 55) (M 43) (M 47)) (hX : ∀ c, 0 ≤ c → c < 128 → M 56 c = hrc nd lt n N c) (hmy : my = mny nd n N) (h0 : 0 ≤ t0 ∧ t0 ≤ 864000000) (h1 : 0 < b0 ∧ b0 ≤ 22500) (he : e0 ≠ k) :
    ∃ t b e w A, eS wh YX17_part 1 17 [(0, 2, 41), (1, 0, face), (2, 0, n), (5, 0, my), (6, 1, t0), (8, 1, b0), (10, 0, e0), (11, 0, w0), (12, 0, k)] [] M 17 [(0, 2, 41), (1, 0, face), (2, 0, n), (5, 0, my), (6, 1, t), (8, 1, b), (10, 0, e), (11, 0, w), (12, 0, k + 1)] [] A ∧ frx (fun c _ => c = 57) M A ∧ Spt (Cnd nd (fun f => G (19 * f + k)) n N N) (nNN nd lt (fun f => G (19 * f + k)) n N) (nBB nd (fun f => G (19 * f + k)) n N) k t0 b0 e0 w0 t b e w := by
  obtain ⟨T0, T1, T2⟩ := T
  have q : ∀ (m j : Nat) (A : rhM) (t b e w : Int), j + m = N → frx (fun c _ => c = 57) M A → Spt (Cnd nd (fun f => G (19 * f + k)) n N j) (nNN nd lt (fun f => G (19 * f + k)) n N) (nBB nd (fun f => G (19 * f + k)) n N) k t0 b0 e0 w0 t b e w → ∃ t' b' e' w' A', eS wh YX17_part 1 27 [(0, 2, 41), (1, 0, face), (2, 0, n), (5, 0, my), (6, 1, t), (8, 1, b), (10, 0, e), (11, 0, w), (12, 0, k), (13, 0, (j : Int))] [] A 17 [(0, 2, 41), (1, 0, face), (2, 0, n), (5, 0, my), (6, 1, t'), (8, 1, b'), (10, 0, e'), (11, 0, w'), (12, 0, k + 1)] [] A' ∧ frx (fun c _ => c = 57) M A' ∧ Spt (Cnd nd (fun f => G (19 * f + k)) n N N) (nNN nd lt (fun f => G (19 * f + k)) n N) (nBB nd (fun f => G (19 * f + k)) n N) k t0 b0 e0 w0 t' b' e' w' := by
    intro m
    induction m with
    | zero =>
      intro j A t b e w hj f S
      have : j = N := (by omega)
      rw [this] at S ⊢
      refine ⟨t, b, e, w, A, eS.of (fun P HP => ?_), f, S⟩
      refine rh1.of (rX17_part_27 hh _ _ _ _ _ _ _ _ _ _ ?_)
      rw [f 41 0 (by omega), T0]
      exact ⟨fun y => by omega, fun _ => ⟨⟨by omega, by omega⟩, HP⟩⟩
    | succ m ih =>
      intro j A t b e w hj f S
      obtain ⟨g1, g2, g3, g4⟩ := T2 j (by omega) (by omega)
      have g5 := g4 k hk.1 hk.2
      generalize hv : G (19 * (j : Int) + k) = v at *
      have T' : Trd N nd lt G (A 41 0) (A 55) (A 43) (A 47) := ⟨by rw [f _ _ (by omega), T0], T1, fun i i0 i1 => by rw [f _ _ (by omega), f _ _ (by omega), f.cell (a := 47) (fun j => (by omega))]; exact T2 i i0 i1⟩
      have cup : ∀ x, Cnd nd (fun f => G (19 * f + k)) n N ((j : Int) + 1) x ↔ (Cnd nd (fun f => G (19 * f + k)) n N j x ∨ (nd j = n ∧ x = v ∧ lwr nd (fun f => G (19 * f + k)) n N v < mny nd n N)) := by
        intro x
        constructor
        · rintro ⟨g, g0, g1, g2, g3, g4⟩
          by_cases y : g = j
          · rw [y] at g2 g3
            have : x = v := by rw [← g3, ← hv]
            rw [this] at g4
            exact .inr ⟨g2, this, g4⟩
          · exact .inl ⟨g, g0, (by omega), g2, g3, g4⟩
        · rintro (⟨g, g0, g1, g2, g3, g4⟩ | ⟨a, b, c⟩)
          · exact ⟨g, g0, (by omega), g2, g3, g4⟩
          · exact ⟨j, (by omega), (by omega), a, by rw [b, ← hv], by rw [b]; exact c⟩
      have hC : ∀ x, Cnd nd (fun f => G (19 * f + k)) n N j x → 0 < nBB nd (fun f => G (19 * f + k)) n N x := fun x hx => hx.p (by omega)
      by_cases q1 : nd j = n
      · obtain ⟨r1, A1, E1, er, f1, v1⟩ := c_countLow hh (n := n) (v := v) hk A T'
        have lb := lwr_b (nd := nd) (ft := fun f => G (19 * f + k)) (n := n) v T1
        have F1 : frx (fun c _ => c = 57) M A1 := f.tr f1
        by_cases q2 : r1 < my
        · have hx : 0 < nBB nd (fun f => G (19 * f + k)) n N v := Cnd.p (j := (j : Int) + 1) (by omega) ((cup v).mpr (.inr ⟨q1, rfl, by omega⟩))
          have bd := S.bd T1 hC h0 h1
          have nb := nNN_b (nd := nd) (lt := lt) (ft := fun f => G (19 * f + k)) (n := n) v T1
          have bb := nBB_b (nd := nd) (ft := fun f => G (19 * f + k)) (n := n) v T1
          have HS := h_sum hh (face := face) (n := n) (my := my) (t := t) (b := b) (e := e) (w := w) (k := k) (j := j) (v := v) (lo := r1) (X := hrc nd lt n N) (L := lwc nd lt (fun f => G (19 * f + k)) n N v) A1 (fun c c0 c1 => by rw [F1 _ _ (by omega)]; exact hX c c0 c1) v1 (fun c _ _ => (lwc_b v c T1).1) (fun c _ _ => (lwc_b v c T1).2)
          have eN : sqs (lwc nd lt (fun f => G (19 * f + k)) n N v) 128 * (my - r1) + sqs (fun c => hrc nd lt n N c - lwc nd lt (fun f => G (19 * f + k)) n N v c) 128 * r1 = nNN nd lt (fun f => G (19 * f + k)) n N v := by rw [hmy, er]; rfl
          have eB : r1 * (my - r1) = nBB nd (fun f => G (19 * f + k)) n N v := by rw [hmy, er]; rfl
          have cup' : ∀ x, Cnd nd (fun f => G (19 * f + k)) n N ((j + 1 : Nat) : Int) x ↔ (Cnd nd (fun f => G (19 * f + k)) n N j x ∨ x = v) := fun x => by
            have := cup x
            rw [show ((j + 1 : Nat) : Int) = (j : Int) + 1 by omega, this]
            constructor
            · rintro (y | y)
              · exact .inl y
              · exact .inr y.2.1
            · rintro (y | y)
              · exact .inl y
              · exact .inr ⟨q1, y, by omega⟩
          generalize sqs (lwc nd lt (fun f => G (19 * f + k)) n N v) 128 = s1 at *
          generalize sqs (fun c => hrc nd lt n N c - lwc nd lt (fun f => G (19 * f + k)) n N v c) 128 = s2 at *
          have p1 := mb2 nb.1 nb.2 (show 0 ≤ b by omega) bd.2.2
          have p2 := mb2 bd.1.1 bd.1.2 bb.1 bb.2
          have S' : ∀ {t' b' e' w' : Int}, Spt (Cnd nd (fun f => G (19 * f + k)) n N ((j + 1 : Nat) : Int)) (nNN nd lt (fun f => G (19 * f + k)) n N) (nBB nd (fun f => G (19 * f + k)) n N) k t0 b0 e0 w0 t' b' e' w' → (∀ P : Int → rhM → Prop, rh1 wh YX17_part 1 27 [(0, 2, 41), (1, 0, face), (2, 0, n), (5, 0, my), (6, 1, t'), (8, 1, b'), (10, 0, e'), (11, 0, w'), (12, 0, k), (13, 0, (j : Int) + 1)] [] A1 P → rh1 wh YX17_part 1 94 [(0, 2, 41), (1, 0, face), (2, 0, n), (5, 0, my), (6, 1, t), (8, 1, b), (10, 0, e), (11, 0, w), (12, 0, k), (13, 0, (j : Int)), (14, 0, v), (15, 0, r1), (16, 1, s1), (18, 1, s2), (20, 0, 128)] [] A1 P) → ∃ t' b' e' w' A', eS wh YX17_part 1 27 [(0, 2, 41), (1, 0, face), (2, 0, n), (5, 0, my), (6, 1, t), (8, 1, b), (10, 0, e), (11, 0, w), (12, 0, k), (13, 0, (j : Int))] [] A 17 [(0, 2, 41), (1, 0, face), (2, 0, n), (5, 0, my), (6, 1, t'), (8, 1, b'), (10, 0, e'), (11, 0, w'), (12, 0, k + 1)] [] A' ∧ frx (fun c _ => c = 57) M A' ∧ Spt (Cnd nd (fun f => G (19 * f + k)) n N N) (nNN nd lt (fun f => G (19 * f + k)) n N) (nBB nd (fun f => G (19 * f + k)) n N) k t0 b0 e0 w0 t' b' e' w' := by
            intro t' b' e' w' SS HH
            obtain ⟨t'', b'', e'', w'', A', E, f', S'⟩ := ih (j + 1) A1 t' b' e' w' (by omega) F1 SS
            refine ⟨t'', b'', e'', w'', A', eS.of (fun P HP => ?_), f', S'⟩
            refine rh1.of (rX17_part_27 hh _ _ _ _ _ _ _ _ _ _ ?_)
            rw [f 41 0 (by omega), T0, f 47 _ (by omega), g5.1, f 55 _ (by omega), g1]
            refine ⟨fun _ => ⟨⟨by omega, by omega⟩, ?_⟩, fun y => by omega⟩
            rintro _ rfl
            refine ⟨⟨by omega, by omega⟩, fun _ => ?_, fun y => absurd q1 y⟩
            refine rh1.s (vX17_part_68 hh E1 (LE0 rfl)) ?_
            refine rh1.of (rX17_part_71 hh _ _ _ _ _ _ _ _ _ _ _ _ ?_)
            refine ⟨fun _ => ?_, fun y => absurd q2 y⟩
            refine rh1.s HS (HH P ?_)
            rw [show (j : Int) + 1 = ((j + 1 : Nat) : Int) by omega]
            exact rh1.s E HP
          have h10 : ¬ ((1 : Int) = 0) := by decide
          by_cases q3 : t * nBB nd (fun f => G (19 * f + k)) n N v < nNN nd lt (fun f => G (19 * f + k)) n N v * b
          · refine S' (S.new h1.1 hC hx he (.inl q3) cup') (fun P HP => ?_)
            refine rh1.of (rX17_part_94 hh _ _ _ _ _ _ _ _ _ _ _ _ _ _ _ ?_)
            rw [eN, eB]
            refine ⟨fun y => by omega, fun _ => ⟨⟨by omega, by omega⟩, fun x0 hx0 => ?_⟩⟩
            rw [hx0]
            refine ⟨⟨by omega, by omega⟩, ⟨by omega, by omega⟩, ⟨by omega, by omega⟩, ⟨by omega, by omega⟩, ⟨by omega, by omega⟩, ?_⟩
            rw [rh_if_t q3]
            rintro _ rfl
            refine ⟨fun _ => ⟨by omega, by omega⟩, fun _ => ⟨by omega, by omega⟩, fun x _ => ⟨⟨by omega, by omega⟩, ?_⟩⟩
            rw [rh_if_f h10, rh_if_f h10, rh_if_f h10, rh_if_f h10]
            exact HP
          · by_cases q4 : e = k ∧ nNN nd lt (fun f => G (19 * f + k)) n N v * b = t * nBB nd (fun f => G (19 * f + k)) n N v ∧ v < w
            · refine S' (S.new h1.1 hC hx he (.inr q4) cup') (fun P HP => ?_)
              refine rh1.of (rX17_part_94 hh _ _ _ _ _ _ _ _ _ _ _ _ _ _ _ ?_)
              rw [eN, eB]
              refine ⟨fun y => by omega, fun _ => ⟨⟨by omega, by omega⟩, fun x0 hx0 => ?_⟩⟩
              rw [hx0]
              refine ⟨⟨by omega, by omega⟩, ⟨by omega, by omega⟩, ⟨by omega, by omega⟩, ⟨by omega, by omega⟩, ⟨by omega, by omega⟩, ?_⟩
              rw [rh_if_f q3]
              rintro _ rfl
              refine ⟨fun _ => ⟨by omega, by omega⟩, fun _ => ⟨by omega, by omega⟩, ?_⟩
              rintro x hx
              have cc : x ≠ 0 ∧ v < w := ⟨by rw [hx, rh_if_t ⟨q4.1, q4.2.1⟩]; decide, q4.2.2⟩
              refine ⟨⟨by omega, by omega⟩, ?_⟩
              rw [rh_if_t rfl, rh_if_t rfl, rh_if_t rfl, rh_if_t rfl, rh_if_t cc, rh_if_t cc, rh_if_t cc, rh_if_t cc]
              exact HP
            · refine S' (S.old q3 (fun a b => ?_) cup') (fun P HP => ?_)
              · by_cases y : v < w
                · exact absurd ⟨a, b, y⟩ q4
                · omega
              · refine rh1.of (rX17_part_94 hh _ _ _ _ _ _ _ _ _ _ _ _ _ _ _ ?_)
                rw [eN, eB]
                refine ⟨fun y => by omega, fun _ => ⟨⟨by omega, by omega⟩, fun x0 hx0 => ?_⟩⟩
                rw [hx0]
                refine ⟨⟨by omega, by omega⟩, ⟨by omega, by omega⟩, ⟨by omega, by omega⟩, ⟨by omega, by omega⟩, ⟨by omega, by omega⟩, ?_⟩
                rw [rh_if_f q3]
                rintro _ rfl
                refine ⟨fun _ => ⟨by omega, by omega⟩, fun _ => ⟨by omega, by omega⟩, ?_⟩
                rintro x hx
                have cc : ¬ (x ≠ 0 ∧ v < w) := fun y => by
                  rw [hx] at y
                  have := if1_ne.mp y.1
                  exact q4 ⟨this.1, this.2, y.2⟩
                refine ⟨⟨by omega, by omega⟩, ?_⟩
                rw [rh_if_t rfl, rh_if_t rfl, rh_if_t rfl, rh_if_t rfl, rh_if_f cc, rh_if_f cc, rh_if_f cc, rh_if_f cc]
                exact HP
        · obtain ⟨t'', b'', e'', w'', A', E, f', S'⟩ := ih (j + 1) A1 t b e w (by omega) F1 (S.cg (fun x => by
            rw [show ((j + 1 : Nat) : Int) = (j : Int) + 1 by omega, cup x]
            exact ⟨fun y => y.elim id (fun y => by omega), .inl⟩))
          refine ⟨t'', b'', e'', w'', A', eS.of (fun P HP => ?_), f', S'⟩
          refine rh1.of (rX17_part_27 hh _ _ _ _ _ _ _ _ _ _ ?_)
          rw [f 41 0 (by omega), T0, f 47 _ (by omega), g5.1, f 55 _ (by omega), g1]
          refine ⟨fun _ => ⟨⟨by omega, by omega⟩, ?_⟩, fun y => by omega⟩
          rintro _ rfl
          refine ⟨⟨by omega, by omega⟩, fun _ => ?_, fun y => absurd q1 y⟩
          refine rh1.s (vX17_part_68 hh E1 (LE0 rfl)) ?_
          refine rh1.of (rX17_part_71 hh _ _ _ _ _ _ _ _ _ _ _ _ ?_)
          refine ⟨fun y => absurd y q2, fun _ => ⟨⟨by omega, by omega⟩, ?_⟩⟩
          rw [show (j : Int) + 1 = ((j + 1 : Nat) : Int) by omega]
          exact rh1.s E HP
      · obtain ⟨t'', b'', e'', w'', A', E, f', S'⟩ := ih (j + 1) A t b e w (by omega) f (S.cg (fun x => by
          rw [show ((j + 1 : Nat) : Int) = (j : Int) + 1 by omega, cup x]
          exact ⟨fun y => y.elim id (fun y => absurd y.1 q1), .inl⟩))
        refine ⟨t'', b'', e'', w'', A', eS.of (fun P HP => ?_), f', S'⟩
        refine rh1.of (rX17_part_27 hh _ _ _ _ _ _ _ _ _ _ ?_)
        rw [f 41 0 (by omega), T0, f 47 _ (by omega), g5.1, f 55 _ (by omega), g1]
        refine ⟨fun _ => ⟨⟨by omega, by omega⟩, ?_⟩, fun y => by omega⟩
        rintro _ rfl
        refine ⟨⟨by omega, by omega⟩, fun y => absurd y q1, fun _ => ⟨fun y => by omega, fun _ => ⟨⟨by omega, by omega⟩, ?_⟩⟩⟩
        rw [show (j : Int) + 1 = ((j + 1 : Nat) : Int) by omega]
        exact rh1.s E HP
  obtain ⟨t, b, e, w, A, E, f, S⟩ := q N 0 M t0 b0 e0 w0 (by omega) frx.rf (.inl ⟨rfl, rfl, rfl, rfl, fun v hv => by
    obtain ⟨g, g0, g1, -⟩ := hv
    omega⟩)
  refine ⟨t, b, e, w, A, eS.of (fun P HP => ?_), f, S⟩
  refine rh1.of (rX17_part_17 hh _ _ _ _ _ _ _ _ _ ?_)
  exact ⟨fun _ => rh1.s E HP, fun y => by omega⟩
end TreeH
