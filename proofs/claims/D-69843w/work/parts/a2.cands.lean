/-! ===== LAYER 2: candidates: choose and findCandidates ===== -/
section Cands
variable {wh wm : rhW}
def kst (nd : Int → Int) (tv c : Int) : Int := if nd c = -1 then -1 else (if nd c / 64 < 250 then nd c / 64 else 250) + (if tv ≠ -1 ∧ tv ≠ c then 6 else 0)
theorem kst_n {nd : Int → Int} {tv c : Int} (h : -1 ≤ nd c) : kst nd tv c ≠ -1 ↔ nd c ≠ -1 := by
  unfold kst
  by_cases q : nd c = -1
  · rw [if_pos q]; exact ⟨fun z => absurd rfl z, fun z => absurd q z⟩
  · rw [if_neg q]
    refine ⟨fun _ => q, fun _ => ?_⟩
    split <;> split <;> omega
theorem kst_b {nd : Int → Int} {tv c : Int} (h : -1 ≤ nd c) : -1 ≤ kst nd tv c ∧ kst nd tv c ≤ 256 := by
  unfold kst
  split
  · omega
  · split <;> split <;> omega
theorem ee_none {K : Int → Int} : ∀ N : Nat, (∀ c : Int, 0 ≤ c → c < N → K c = -1) → ee0 K N = -1 ∧ ee1 K N = -1 ∧ ee2 K N = -1
  | 0 => fun _ => ⟨rfl, rfl, rfl⟩
  | N + 1 => fun h => by
    obtain ⟨a, b, c⟩ := ee_skip (K := K) (N := N) (h N (by omega) (by omega))
    rw [a, b, c]
    exact ee_none N (fun c a b => h c a (by omega))
/-- forms and features at hand -/
def Fat (n : Int) (fc lt G F : Int → Int) (a0 a42 a43 a47 a31 : Int → Int) (m : Int) : Prop := m = n ∧ (0 ≤ n ∧ n ≤ 150) ∧ (∀ f, 0 ≤ f → f < n → a42 f = fc f ∧ a43 f = lt f ∧ 33 ≤ lt f ∧ lt f ≤ 126) ∧ (∀ f k, 0 ≤ f → f < n → 0 ≤ k → k < 19 → a47 (19 * f + k) = G (19 * f + k) ∧ 0 ≤ G (19 * f + k) ∧ G (19 * f + k) ≤ 6144) ∧ (∀ k, 0 ≤ k → k < 19 → a31 k = F k ∧ 0 ≤ F k ∧ F k ≤ 6144)
theorem h_near (hh : rh_hs wh) {n face : Int} {fc lt G F : Int → Int} (M : rhM) (h : Fat n fc lt G F (M 41) (M 42) (M 43) (M 47) (M 31) (M 41 0)) :
    ∃ A, eS wh YX17_choose 1 0 (rh_lo 0 [(2, 41), (0, face), (2, 31)]) [] M 26 [(0, 2, 41), (1, 0, face), (2, 2, 31), (3, 0, n)] [] A ∧ frx (fun c _ => c = 61 ∨ c = 62) M A ∧ ∀ c, 0 ≤ c → c < 128 → A 61 c = ndd fc lt (fun f => dst F G f 19) face n.toNat c ∧ (ndd fc lt (fun f => dst F G f 19) face n.toNat c ≠ -1 → A 62 c = ndf fc lt (fun f => dst F G f 19) face n.toNat c) := by
  have hb : rh_bl wh 6 31 19 := rh_bl.of (o := 31) (m := 19) hh (by decide +kernel)
  obtain ⟨h1, h2, h3, h4, h5⟩ := h
  have z : ∀ (m : Nat) (c : Int) (A : rhM), c + m = 128 → 0 ≤ c → frx (fun c _ => c = 61 ∨ c = 62) M A → (∀ j, 0 ≤ j → j < c → A 61 j = -1) → ∃ A', eS wh YX17_choose 1 2 [(0, 2, 41), (1, 0, face), (2, 2, 31), (3, 0, c)] [] A 26 [(0, 2, 41), (1, 0, face), (2, 2, 31), (3, 0, 0)] [] A' ∧ frx (fun c _ => c = 61 ∨ c = 62) M A' ∧ ∀ j, 0 ≤ j → j < 128 → A' 61 j = -1 := by
    intro m
    induction m with
    | zero =>
      intro c A hc c0 f hA
      refine ⟨A, eS.of (fun P HP => ?_), f, fun j j0 j1 => hA j j0 (by omega)⟩
      refine rh1.of (rX17_choose_2 hh _ _ _ _ _ hb ?_)
      exact ⟨fun y => by omega, fun _ => HP⟩
    | succ m ih =>
      intro c A hc c0 f hA
      obtain ⟨A', e, f', h'⟩ := ih (c + 1) (rh_set A 61 c (-1)) (by omega) (by omega) (f.st (by omega)) (fun j j0 j1 => by
        rw [rh_sets, if_pos rfl]
        split
        · rfl
        · exact hA j j0 (by omega))
      refine ⟨A', eS.of (fun P HP => ?_), f', h'⟩
      refine rh1.of (rX17_choose_2 hh _ _ _ _ _ hb ?_)
      exact ⟨fun _ => ⟨⟨by omega, by omega⟩, ⟨by omega, by omega⟩, rh1.s e HP⟩, fun y => by omega⟩
  have w : ∀ (m k : Nat) (A : rhM), (k : Int) + m = n → frx (fun c _ => c = 61 ∨ c = 62) M A → (∀ c, 0 ≤ c → c < 128 → A 61 c = ndd fc lt (fun f => dst F G f 19) face k c ∧ (ndd fc lt (fun f => dst F G f 19) face k c ≠ -1 → A 62 c = ndf fc lt (fun f => dst F G f 19) face k c)) → ∃ A', eS wh YX17_choose 1 26 [(0, 2, 41), (1, 0, face), (2, 2, 31), (3, 0, (k : Int))] [] A 26 [(0, 2, 41), (1, 0, face), (2, 2, 31), (3, 0, n)] [] A' ∧ frx (fun c _ => c = 61 ∨ c = 62) M A' ∧ ∀ c, 0 ≤ c → c < 128 → A' 61 c = ndd fc lt (fun f => dst F G f 19) face n.toNat c ∧ (ndd fc lt (fun f => dst F G f 19) face n.toNat c ≠ -1 → A' 62 c = ndf fc lt (fun f => dst F G f 19) face n.toNat c) := by
    intro m
    induction m with
    | zero =>
      intro k A hk f hA
      rw [show n.toNat = k by omega, show n = (k : Int) by omega]
      exact ⟨A, eS.rf, f, hA⟩
    | succ m ih =>
      intro k A hk f hA
      obtain ⟨g1, g2, g3⟩ := h3 k (by omega) (by omega)
      have e42 : A 42 k = fc k := by rw [f _ _ (by omega), g1]
      have e43 : A 43 k = lt k := by rw [f _ _ (by omega), g2]
      have e41 : A 41 0 = n := by rw [f _ _ (by omega), h1]
      have ed : ndd fc lt (fun f => dst F G f 19) face (k + 1) = if fc k = face ∧ (ndd fc lt (fun f => dst F G f 19) face k (lt k) = -1 ∨ dst F G k 19 < ndd fc lt (fun f => dst F G f 19) face k (lt k)) then upz (ndd fc lt (fun f => dst F G f 19) face k) (lt k) (dst F G k 19) else ndd fc lt (fun f => dst F G f 19) face k := rfl
      have ef : ndf fc lt (fun f => dst F G f 19) face (k + 1) = if fc k = face ∧ (ndd fc lt (fun f => dst F G f 19) face k (lt k) = -1 ∨ dst F G k 19 < ndd fc lt (fun f => dst F G f 19) face k (lt k)) then upz (ndf fc lt (fun f => dst F G f 19) face k) (lt k) k else ndf fc lt (fun f => dst F G f 19) face k := rfl
      have a1 := (hA (lt k) (by omega) (by omega)).1
      by_cases q : fc k = face ∧ (ndd fc lt (fun f => dst F G f 19) face k (lt k) = -1 ∨ dst F G k 19 < ndd fc lt (fun f => dst F G f 19) face k (lt k))
      · rw [if_pos q] at ed ef
        obtain ⟨A', e, f', h'⟩ := ih (k + 1) (rh_set (rh_set A 61 (lt k) (dst F G k 19)) 62 (lt k) k) (by omega) ((f.st (by omega)).st (by omega)) (fun c c0 c1 => by
          rw [ed, ef]
          unfold upz
          rw [rh_set_a (show (61 : Int) ≠ 62 by decide)]
          by_cases y : c = lt k
          · rw [y, rh_set_s, rh_set_s, if_pos rfl, if_pos rfl]; exact ⟨rfl, fun _ => rfl⟩
          · rw [rh_set_j y, rh_set_j y, if_neg y, if_neg y, rh_set_a (show (62 : Int) ≠ 61 by decide)]; exact hA c c0 c1)
        refine ⟨A', eS.of (fun P HP => ?_), f', h'⟩
        refine rh1.of (rX17_choose_26 hh _ _ _ _ _ hb ?_)
        rw [e41, e42, e43]
        refine ⟨fun _ => ⟨⟨by omega, by omega⟩, ⟨by omega, by omega⟩, fun _ => ?_, fun y => absurd q.1 y⟩, fun y => by omega⟩
        refine rh1.s (vX17_choose_55 hh (c_distH hh (f := (k : Int)) ⟨by omega, by omega⟩ A (fun j j0 j1 => by rw [f _ _ (by omega)]; exact h5 j j0 j1) (fun j j0 j1 => by rw [f _ _ (by omega)]; exact h4 k j (by omega) (by omega) j0 j1)) (LE0 rfl)) ?_
        refine rh1.of (rX17_choose_58 hh _ _ _ _ _ _ _ hb ?_)
        rw [a1]
        refine ⟨⟨by omega, by omega⟩, fun _ => ⟨by omega, by omega⟩, fun _ => ⟨⟨by omega, by omega⟩, ⟨by omega, by omega⟩, ⟨by omega, by omega⟩, ?_⟩, fun y => absurd q.2 y⟩
        rw [show (k : Int) + 1 = ((k + 1 : Nat) : Int) by omega]
        exact rh1.s e HP
      · rw [if_neg q] at ed ef
        obtain ⟨A', e, f', h'⟩ := ih (k + 1) A (by omega) f (by rw [ed, ef]; exact hA)
        refine ⟨A', eS.of (fun P HP => ?_), f', h'⟩
        refine rh1.of (rX17_choose_26 hh _ _ _ _ _ hb ?_)
        rw [e41, e42, e43]
        refine ⟨fun _ => ⟨⟨by omega, by omega⟩, ⟨by omega, by omega⟩, fun y => ?_, fun y => ⟨⟨by omega, by omega⟩, ?_⟩⟩, fun y => by omega⟩
        · refine rh1.s (vX17_choose_55 hh (c_distH hh (f := (k : Int)) ⟨by omega, by omega⟩ A (fun j j0 j1 => by rw [f _ _ (by omega)]; exact h5 j j0 j1) (fun j j0 j1 => by rw [f _ _ (by omega)]; exact h4 k j (by omega) (by omega) j0 j1)) (LE0 rfl)) ?_
          refine rh1.of (rX17_choose_58 hh _ _ _ _ _ _ _ hb ?_)
          rw [a1]
          refine ⟨⟨by omega, by omega⟩, fun _ => ⟨by omega, by omega⟩, fun u => absurd ⟨y, u⟩ q, fun _ => ⟨⟨by omega, by omega⟩, ?_⟩⟩
          rw [show (k : Int) + 1 = ((k + 1 : Nat) : Int) by omega]
          exact rh1.s e HP
        · rw [show (k : Int) + 1 = ((k + 1 : Nat) : Int) by omega]
          exact rh1.s e HP
  obtain ⟨A1, e1, f1, z1⟩ := z 128 0 M (by omega) (by omega) frx.rf (fun j j0 j1 => by omega)
  obtain ⟨A2, e2, f2, z2⟩ := w n.toNat 0 A1 (by omega) f1 (fun c c0 c1 => ⟨z1 c c0 c1, fun y => absurd rfl y⟩)
  refine ⟨A2, ?_, f2, z2⟩
  refine eS.tr ?_ (e1.tr e2)
  refine eS.of (fun P HP => ?_)
  refine rh1.of (rX17_choose_0 hh _ _ _ _ hb ?_)
  exact HP
theorem m_near (hm : rh_ms wm) {n face : Int} {fc lt G F : Int → Int} (M : rhM) (h : Fat n fc lt G F (M 0) (M 63) (M 64) (M 68) (M 62) (M 0 89)) :
    ∃ A, eS wm YX32_findCandidates 1 0 (rh_lo 0 [(2, 0), (0, face)]) [] M 24 [(0, 2, 0), (1, 0, face), (2, 0, n)] [] A ∧ frx (fun c _ => c = 84 ∨ c = 85) M A ∧ ∀ c, 0 ≤ c → c < 128 → A 84 c = ndd fc lt (fun f => dst F G f 19) face n.toNat c ∧ (ndd fc lt (fun f => dst F G f 19) face n.toNat c ≠ -1 → A 85 c = ndf fc lt (fun f => dst F G f 19) face n.toNat c) := by
  obtain ⟨h1, h2, h3, h4, h5⟩ := h
  have z : ∀ (m : Nat) (c : Int) (A : rhM), c + m = 128 → 0 ≤ c → frx (fun c _ => c = 84 ∨ c = 85) M A → (∀ j, 0 ≤ j → j < c → A 84 j = -1) → ∃ A', eS wm YX32_findCandidates 1 2 [(0, 2, 0), (1, 0, face), (2, 0, c)] [] A 24 [(0, 2, 0), (1, 0, face), (2, 0, 0)] [] A' ∧ frx (fun c _ => c = 84 ∨ c = 85) M A' ∧ ∀ j, 0 ≤ j → j < 128 → A' 84 j = -1 := by
    intro m
    induction m with
    | zero =>
      intro c A hc c0 f hA
      refine ⟨A, eS.of (fun P HP => ?_), f, fun j j0 j1 => hA j j0 (by omega)⟩
      refine rh1.of (rX32_findCandidates_2 hm _ _ _ ?_)
      exact ⟨fun y => by omega, fun _ => HP⟩
    | succ m ih =>
      intro c A hc c0 f hA
      obtain ⟨A', e, f', h'⟩ := ih (c + 1) (rh_set A 84 c (-1)) (by omega) (by omega) (f.st (by omega)) (fun j j0 j1 => by
        rw [rh_sets, if_pos rfl]
        split
        · rfl
        · exact hA j j0 (by omega))
      refine ⟨A', eS.of (fun P HP => ?_), f', h'⟩
      refine rh1.of (rX32_findCandidates_2 hm _ _ _ ?_)
      exact ⟨fun _ => ⟨⟨by omega, by omega⟩, ⟨by omega, by omega⟩, rh1.s e HP⟩, fun y => by omega⟩
  have w : ∀ (m k : Nat) (A : rhM), (k : Int) + m = n → frx (fun c _ => c = 84 ∨ c = 85) M A → (∀ c, 0 ≤ c → c < 128 → A 84 c = ndd fc lt (fun f => dst F G f 19) face k c ∧ (ndd fc lt (fun f => dst F G f 19) face k c ≠ -1 → A 85 c = ndf fc lt (fun f => dst F G f 19) face k c)) → ∃ A', eS wm YX32_findCandidates 1 24 [(0, 2, 0), (1, 0, face), (2, 0, (k : Int))] [] A 24 [(0, 2, 0), (1, 0, face), (2, 0, n)] [] A' ∧ frx (fun c _ => c = 84 ∨ c = 85) M A' ∧ ∀ c, 0 ≤ c → c < 128 → A' 84 c = ndd fc lt (fun f => dst F G f 19) face n.toNat c ∧ (ndd fc lt (fun f => dst F G f 19) face n.toNat c ≠ -1 → A' 85 c = ndf fc lt (fun f => dst F G f 19) face n.toNat c) := by
    intro m
    induction m with
    | zero =>
      intro k A hk f hA
      rw [show n.toNat = k by omega, show n = (k : Int) by omega]
      exact ⟨A, eS.rf, f, hA⟩
    | succ m ih =>
      intro k A hk f hA
      obtain ⟨g1, g2, g3⟩ := h3 k (by omega) (by omega)
      have e42 : A 63 k = fc k := by rw [f _ _ (by omega), g1]
      have e43 : A 64 k = lt k := by rw [f _ _ (by omega), g2]
      have e41 : A 0 89 = n := by rw [f _ _ (by omega), h1]
      have ed : ndd fc lt (fun f => dst F G f 19) face (k + 1) = if fc k = face ∧ (ndd fc lt (fun f => dst F G f 19) face k (lt k) = -1 ∨ dst F G k 19 < ndd fc lt (fun f => dst F G f 19) face k (lt k)) then upz (ndd fc lt (fun f => dst F G f 19) face k) (lt k) (dst F G k 19) else ndd fc lt (fun f => dst F G f 19) face k := rfl
      have ef : ndf fc lt (fun f => dst F G f 19) face (k + 1) = if fc k = face ∧ (ndd fc lt (fun f => dst F G f 19) face k (lt k) = -1 ∨ dst F G k 19 < ndd fc lt (fun f => dst F G f 19) face k (lt k)) then upz (ndf fc lt (fun f => dst F G f 19) face k) (lt k) k else ndf fc lt (fun f => dst F G f 19) face k := rfl
      have a1 := (hA (lt k) (by omega) (by omega)).1
      by_cases q : fc k = face ∧ (ndd fc lt (fun f => dst F G f 19) face k (lt k) = -1 ∨ dst F G k 19 < ndd fc lt (fun f => dst F G f 19) face k (lt k))
      · rw [if_pos q] at ed ef
        obtain ⟨A', e, f', h'⟩ := ih (k + 1) (rh_set (rh_set A 84 (lt k) (dst F G k 19)) 85 (lt k) k) (by omega) ((f.st (by omega)).st (by omega)) (fun c c0 c1 => by
          rw [ed, ef]
          unfold upz
          rw [rh_set_a (show (84 : Int) ≠ 85 by decide)]
          by_cases y : c = lt k
          · rw [y, rh_set_s, rh_set_s, if_pos rfl, if_pos rfl]; exact ⟨rfl, fun _ => rfl⟩
          · rw [rh_set_j y, rh_set_j y, if_neg y, if_neg y, rh_set_a (show (85 : Int) ≠ 84 by decide)]; exact hA c c0 c1)
        refine ⟨A', eS.of (fun P HP => ?_), f', h'⟩
        refine rh1.of (rX32_findCandidates_24 hm _ _ _ ?_)
        rw [e41, e42]
        refine ⟨fun _ => ⟨⟨by omega, by omega⟩, fun _ => ?_, fun y => absurd q.1 y⟩, fun y => by omega⟩
        refine rh1.s (vX32_findCandidates_44 hm (c_distM hm (f := (k : Int)) ⟨by omega, by omega⟩ A (fun j j0 j1 => by rw [f _ _ (by omega)]; exact h5 j j0 j1) (fun j j0 j1 => by rw [f _ _ (by omega)]; exact h4 k j (by omega) (by omega) j0 j1)) (LE0 rfl)) ?_
        refine rh1.of (rX32_findCandidates_47 hm _ _ _ _ ?_)
        rw [e43, a1]
        refine ⟨⟨by omega, by omega⟩, ⟨by omega, by omega⟩, fun _ => ⟨by omega, by omega⟩, fun _ => ⟨⟨by omega, by omega⟩, ⟨by omega, by omega⟩, ⟨by omega, by omega⟩, ?_⟩, fun y => absurd q.2 y⟩
        rw [show (k : Int) + 1 = ((k + 1 : Nat) : Int) by omega]
        exact rh1.s e HP
      · rw [if_neg q] at ed ef
        obtain ⟨A', e, f', h'⟩ := ih (k + 1) A (by omega) f (by rw [ed, ef]; exact hA)
        refine ⟨A', eS.of (fun P HP => ?_), f', h'⟩
        refine rh1.of (rX32_findCandidates_24 hm _ _ _ ?_)
        rw [e41, e42]
        refine ⟨fun _ => ⟨⟨by omega, by omega⟩, fun y => ?_, fun y => ⟨⟨by omega, by omega⟩, ?_⟩⟩, fun y => by omega⟩
        · refine rh1.s (vX32_findCandidates_44 hm (c_distM hm (f := (k : Int)) ⟨by omega, by omega⟩ A (fun j j0 j1 => by rw [f _ _ (by omega)]; exact h5 j j0 j1) (fun j j0 j1 => by rw [f _ _ (by omega)]; exact h4 k j (by omega) (by omega) j0 j1)) (LE0 rfl)) ?_
          refine rh1.of (rX32_findCandidates_47 hm _ _ _ _ ?_)
          rw [e43, a1]
          refine ⟨⟨by omega, by omega⟩, ⟨by omega, by omega⟩, fun _ => ⟨by omega, by omega⟩, fun u => absurd ⟨y, u⟩ q, fun _ => ⟨⟨by omega, by omega⟩, ?_⟩⟩
          rw [show (k : Int) + 1 = ((k + 1 : Nat) : Int) by omega]
          exact rh1.s e HP
        · rw [show (k : Int) + 1 = ((k + 1 : Nat) : Int) by omega]
          exact rh1.s e HP
  obtain ⟨A1, e1, f1, z1⟩ := z 128 0 M (by omega) (by omega) frx.rf (fun j j0 j1 => by omega)
  obtain ⟨A2, e2, f2, z2⟩ := w n.toNat 0 A1 (by omega) f1 (fun c c0 c1 => ⟨z1 c c0 c1, fun y => absurd rfl y⟩)
  refine ⟨A2, ?_, f2, z2⟩
  refine eS.tr ?_ (e1.tr e2)
  refine eS.of (fun P HP => ?_)
  refine rh1.of (rX32_findCandidates_0 hm _ _ ?_)
  exact HP
/-- the house picks the three best -/
theorem h_sel (hh : rh_hs wh) {tv : Int} {nd nf : Int → Int} (M : rhM) (hnd : ∀ c, -1 ≤ nd c) (hnl : ∀ c, ¬ (33 ≤ c ∧ c ≤ 126) → nd c = -1) (h61 : ∀ c, 0 ≤ c → c < 128 → M 61 c = nd c ∧ (nd c ≠ -1 → M 62 c = nf c)) (h17 : M 41 17 = 0) :
    rh1 wh YX17_choose 1 135 [(0, 2, 41), (3, 0, tv), (4, 0, 33)] [] M (fun _ M' => frx (fun c j => (c = 41 ∧ j = 17) ∨ c = 58 ∨ c = 59 ∨ c = 60) M M' ∧ Cds M' (kst nd tv) nf (ee0 (kst nd tv) 128) (ee1 (kst nd tv) 128) (ee2 (kst nd tv) 128)) := by
  have key : ∀ (m N : Nat) (A : rhM), (N : Int) + m = 127 → 33 ≤ N → frx (fun c j => (c = 41 ∧ j = 17) ∨ c = 58 ∨ c = 59 ∨ c = 60) M A → Cds A (kst nd tv) nf (ee0 (kst nd tv) N) (ee1 (kst nd tv) N) (ee2 (kst nd tv) N) → rh1 wh YX17_choose 1 135 [(0, 2, 41), (3, 0, tv), (4, 0, (N : Int))] [] A (fun _ M' => frx (fun c j => (c = 41 ∧ j = 17) ∨ c = 58 ∨ c = 59 ∨ c = 60) M M' ∧ Cds M' (kst nd tv) nf (ee0 (kst nd tv) 128) (ee1 (kst nd tv) 128) (ee2 (kst nd tv) 128)) := by
    intro m
    induction m with
    | zero =>
      intro N A hN N0 f hC
      have eN : N = 127 := (by omega)
      refine rh1.of (rX17_choose_135 hh _ _ _ ?_)
      refine ⟨fun y => by omega, fun _ => ⟨f, ?_⟩⟩
      have hk : kst nd tv ((127 : Nat) : Int) = -1 := by unfold kst; rw [if_pos (hnl _ (by omega))]
      obtain ⟨a, b, c⟩ := ee_skip hk
      rw [show (128 : Nat) = 127 + 1 from rfl, a, b, c, ← eN]
      exact hC
    | succ m ih =>
      intro N A hN N0 f hC
      obtain ⟨g1, g2⟩ := h61 N (by omega) (by omega)
      have e61 : A 61 N = nd N := by rw [f _ _ (by omega), g1]
      have hn := hnd N
      refine rh1.of (rX17_choose_135 hh _ _ _ ?_)
      rw [e61]
      refine ⟨fun _ => ⟨⟨by omega, by omega⟩, fun q => ⟨⟨by omega, by omega⟩, ⟨by omega, by omega⟩, ?_⟩, fun q => ⟨⟨by omega, by omega⟩, ?_⟩⟩, fun y => by omega⟩
      · have ek : rh_if (nd N / 64 < 250) (nd N / 64) 250 + rh_if (tv ≠ -1 ∧ tv ≠ (N : Int)) (6 : Int) 0 = kst nd tv N := by
          rw [rh_ifd, rh_ifd]; unfold kst; rw [if_neg q]
        have kb := kst_b (tv := tv) hn
        rw [ek]
        refine rh1.s (eS.fx 0 (x := kst nd tv N) rfl ⟨by omega, by omega⟩ rfl) ?_
        obtain ⟨r, A2, E, f2, C2⟩ := c_insertK hh (K := kst nd tv) (nf := nf) (N := N) A (by omega) hC ((kst_n hn).mpr q) (by rw [f _ _ (by omega)]; exact g2 q)
        refine rh1.s (vX17_choose_190 hh E (LE0 rfl)) ?_
        refine rh1.of (rX17_choose_193 hh _ _ _ ?_)
        refine ⟨⟨by omega, by omega⟩, ?_⟩
        rw [show (N : Int) + 1 = ((N + 1 : Nat) : Int) by omega]
        exact ih (N + 1) A2 (by omega) (by omega) (f.tr f2) C2
      · have hk : kst nd tv N = -1 := by unfold kst; rw [if_pos (by omega)]
        obtain ⟨a, b, c⟩ := ee_skip hk
        rw [show (N : Int) + 1 = ((N + 1 : Nat) : Int) by omega]
        exact ih (N + 1) A (by omega) (by omega) f (by rw [a, b, c]; exact hC)
  refine key 94 33 M (by omega) (by omega) frx.rf ?_
  obtain ⟨a, b, c⟩ := ee_none (K := kst nd tv) 33 (fun c c0 c1 => by unfold kst; rw [if_pos (hnl c (by omega))])
  rw [a, b, c]
  exact ⟨by rw [h17, if_pos rfl], fun z => absurd rfl z, fun z => absurd rfl z, fun z => absurd rfl z⟩
end Cands
