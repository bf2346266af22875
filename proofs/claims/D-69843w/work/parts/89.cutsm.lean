/-! ===== LAYER 2: the columns of a word, the model ===== -/
section CutsM
variable {wh wm : rhW}
abbrev Giw (c j : Int) : Prop := (c = 0 ∧ (j = 17 ∨ j = 18 ∨ j = 19 ∨ j = 31 ∨ j = 82 ∨ j = 83)) ∨ (9 ≤ c ∧ c ≤ 11) ∨ (15 ≤ c ∧ c ≤ 22) ∨ c = 56
theorem c_inkOfWord (hm : rh_ms wm) {p w l W H : Int} (hp : 0 ≤ p ∧ p < 8) (hw : 0 ≤ w ∧ w < 80) (M : rhM) (hW : M 4 p = W) (hH : M 5 p = H) (hW0 : 0 ≤ W) (hWb : W ≤ 128) (hHb : H ≤ 96) (hN0 : 0 ≤ W * H) (hN : W * H ≤ 6144) (hb : 0 ≤ M 45 (80 * p + w) ∧ M 45 (80 * p + w) + M 44 (80 * p + w) ≤ 2400) (hc : 0 ≤ M 44 (80 * p + w)) (h46 : ∀ j, 0 ≤ j → j < M 44 (80 * p + w) → 0 ≤ M 46 (M 45 (80 * p + w) + j) ∧ M 46 (M 45 (80 * p + w) + j) < 300) (hl : M 39 (80 * p + w) = l) (hl0 : 0 ≤ l ∧ l < 60) (ht : 0 ≤ M 34 (60 * p + l) ∧ M 34 (60 * p + l) < M 35 (60 * p + l) ∧ M 35 (60 * p + l) ≤ 96) :
    rC1 wm YX32_inkOfWord 3 [(2, 0), (0, p), (0, w)] M (fun r M' => frx Giw M M' ∧ M' 0 17 = W ∧ M' 0 18 = H ∧ Lb W (W * H) (mcol M p) True (M' 9) (M' 0 19) ∧ M' 0 31 = min300 (M' 0 19) ∧ (∀ i, 0 ≤ i → i < M' 0 31 → Pq W (W * H) (M' 9) i (M' 22 i) (M' 16 i) (M' 17 i) (M' 18 i) (M' 19 i)) ∧ (∀ k, 0 ≤ k → k < W * H → (M' 11 k = 0 ∨ M' 11 k = 1) ∧ (M' 11 k ≠ 0 ↔ (M' 9 k ≠ -1 ∧ M' 9 k < 300 ∧ ∃ j, 0 ≤ j ∧ j < M 44 (80 * p + w) ∧ M 46 (M 45 (80 * p + w) + j) = M' 9 k))) ∧ M' 0 83 = M 35 (60 * p + l) ∧ M' 0 82 = M 35 (60 * p + l) - M 34 (60 * p + l)) := by
  refine rC1.of (by decide) (LE0 rfl) ?_
  generalize hPost : (fun (r : Int) (M' : rhM) => frx Giw M M' ∧ M' 0 17 = W ∧ M' 0 18 = H ∧ Lb W (W * H) (mcol M p) True (M' 9) (M' 0 19) ∧ M' 0 31 = min300 (M' 0 19) ∧ (∀ i, 0 ≤ i → i < M' 0 31 → Pq W (W * H) (M' 9) i (M' 22 i) (M' 16 i) (M' 17 i) (M' 18 i) (M' 19 i)) ∧ (∀ k, 0 ≤ k → k < W * H → (M' 11 k = 0 ∨ M' 11 k = 1) ∧ (M' 11 k ≠ 0 ↔ (M' 9 k ≠ -1 ∧ M' 9 k < 300 ∧ ∃ j, 0 ≤ j ∧ j < M 44 (80 * p + w) ∧ M 46 (M 45 (80 * p + w) + j) = M' 9 k))) ∧ M' 0 83 = M 35 (60 * p + l) ∧ M' 0 82 = M 35 (60 * p + l) - M 34 (60 * p + l)) = Post
  refine rh1.of (rX32_inkOfWord_0 hm _ _ _ ?_)
  obtain ⟨r, M1, E1, -, f1, -, PM⟩ := c_findPieces hm hp M hW hH hW0 hWb hHb hN0 hN
  refine rh1.s (vX32_inkOfWord_2 hm E1 (LE0 rfl)) ?_
  obtain ⟨n1, n2, LB, n3, n4, PP⟩ := PM
  have hran := LB.1
  replace LB := Hid.mk LB
  replace PP := Hid.mk PP
  replace hran := Hid.mk hran
  replace h46 := Hid.mk h46
  refine rh1.of (rX32_inkOfWord_5 hm _ _ _ ?_)
  refine ⟨⟨by omega, by omega⟩, ?_⟩
  have wr : 0 ≤ 80 * p + w ∧ 80 * p + w < 640 := ⟨by omega, by omega⟩
  have lr : 0 ≤ 60 * p + l ∧ 60 * p + l < 480 := ⟨by omega, by omega⟩
  generalize hww : 80 * p + w = ww at *
  generalize hct : M 44 ww = ct at *
  generalize hbs : M 45 ww = bs at *
  have key : ∀ (vq : Nat) (i : Int) (M2 : rhM), (300 - i).toNat = vq → (0 ≤ i) → (i ≤ 300) → (frx (fun c _ => c = 56) M1 M2) → ((∀ j, 0 ≤ j → j < i → M2 56 j = 0)) → rh1 wm YX32_inkOfWord 3 15 [(0, 2, 0), (1, 0, p), (3, 0, ww), (4, 0, i)] [] M2 Post := by
    intro vq
    induction vq using Nat.strongRecOn with
    | ind vq ih =>
      intro i M2 hvq i0 i1 f h
      refine rh1.of (rX32_inkOfWord_15 hm _ _ _ _ ?_)
      refine ⟨fun c => ⟨⟨by omega, by omega⟩, ⟨by omega, by omega⟩, ih _ (by omega) (i + 1) _ rfl (by omega) (by omega) (f.st rfl) (fun j j0 j1 => ?_)⟩, fun c => ?_⟩
      · rw [rh_sets, if_pos rfl]
        split
        · rfl
        · exact h j j0 (by omega)
      · have key2 : ∀ (vq : Nat) (k : Int) (M3 : rhM), (ct - k).toNat = vq → (0 ≤ k) → (k ≤ ct) → (frx (fun c _ => c = 56) M1 M3) → ((∀ i, 0 ≤ i → i < 300 → (M3 56 i = 0 ∨ M3 56 i = 1) ∧ (M3 56 i ≠ 0 ↔ ∃ j, 0 ≤ j ∧ j < k ∧ M 46 (bs + j) = i))) → rh1 wm YX32_inkOfWord 3 40 [(0, 2, 0), (1, 0, p), (3, 0, ww), (4, 0, k)] [] M3 Post := by
          intro vq
          induction vq using Nat.strongRecOn with
          | ind vq ih2 =>
            intro k M3 hvq k0 k1 f3 h3
            have e44 : M3 44 ww = ct := by rw [f3 _ _ (by omega), f1 _ _ (by omega), hct]
            have e45 : M3 45 ww = bs := by rw [f3 _ _ (by omega), f1 _ _ (by omega), hbs]
            have e46 : M3 46 (bs + k) = M 46 (bs + k) := by rw [f3 _ _ (by omega), f1 _ _ (by omega)]
            replace h3 := Hid.mk h3
            refine rh1.of (rX32_inkOfWord_40 hm _ _ _ _ ?_)
            rw [e44, e45, e46]
            refine ⟨wr, fun c => ?_, fun c => ?_⟩
            · have q := h46.out k k0 c
              refine ⟨wr, ⟨by omega, by omega⟩, q, ⟨by omega, by omega⟩, ih2 _ (by omega) (k + 1) _ rfl (by omega) (by omega) (f3.st rfl) (fun i i0 i1 => ?_)⟩
              by_cases e : i = M 46 (bs + k)
              · rw [e, rh_set_s]
                exact ⟨.inr rfl, fun _ => ⟨k, k0, (by omega), rfl⟩, fun _ => by decide⟩
              · rw [rh_set_j e]
                obtain ⟨a1, a2⟩ := h3.out i i0 i1
                refine ⟨a1, fun z => ?_, fun z => ?_⟩
                · obtain ⟨j, j0, j1, j2⟩ := a2.mp z
                  exact ⟨j, j0, (by omega), j2⟩
                · obtain ⟨j, j0, j1, j2⟩ := z
                  refine a2.mpr ⟨j, j0, ?_, j2⟩
                  by_cases y : j = k
                  · rw [y] at j2; exact absurd j2.symm e
                  · omega
            · have ek : k = ct := (by omega)
              rw [ek] at h3
              have key3 : ∀ (vq : Nat) (k : Int) (M4 : rhM), (W * H - k).toNat = vq → (0 ≤ k) → (k ≤ W * H) → (frx (fun c _ => c = 56 ∨ c = 11) M1 M4) → (M4 56 = M3 56) → ((∀ t, 0 ≤ t → t < k → (M4 11 t = 0 ∨ M4 11 t = 1) ∧ (M4 11 t ≠ 0 ↔ (M1 9 t ≠ -1 ∧ M1 9 t < 300 ∧ ∃ j, 0 ≤ j ∧ j < ct ∧ M 46 (bs + j) = M1 9 t)))) → rh1 wm YX32_inkOfWord 3 80 [(0, 2, 0), (1, 0, p), (3, 0, ww), (4, 0, k)] [] M4 Post := by
                intro vq
                induction vq using Nat.strongRecOn with
                | ind vq ih3 =>
                  intro k M4 hvq k0 k1 f4 e56 h4
                  have e9 : M4 9 = M1 9 := f4.cell (fun j => (by omega))
                  refine rh1.of (rX32_inkOfWord_80 hm _ _ _ _ ?_)
                  rw [f4 0 17 (by omega), f4 0 18 (by omega), n1, n2, e9, e56]
                  refine ⟨⟨by omega, by omega⟩, fun c => ?_, fun c => ⟨wr, ?_⟩⟩
                  · have hr := (hran.out k ⟨k0, c⟩).2
                    have kr : 0 ≤ k ∧ k < 6144 := ⟨by omega, by omega⟩
                    refine ⟨kr, fun _ => kr, fun _ _ => kr, fun y z => ⟨by omega, by omega⟩, fun v ev => ⟨kr, by rw [ev]; exact if1_b, ⟨by omega, by omega⟩, ih3 _ (by omega) (k + 1) _ rfl (by omega) (by omega) (f4.st (.inr rfl)) (by rw [rh_set_n (by omega), e56]) (fun t t0 t1 => ?_)⟩⟩
                    by_cases e : t = k
                    · rw [e, rh_set_s, ev]
                      refine ⟨by have := if1_b (P := M1 9 k ≠ -1 ∧ M1 9 k < 300 ∧ M3 56 (M1 9 k) ≠ 0); omega, ?_⟩
                      rw [if1_ne]
                      constructor
                      · rintro ⟨y1, y2, y3⟩
                        exact ⟨y1, y2, (h3.out _ (by omega) y2).2.mp y3⟩
                      · rintro ⟨y1, y2, y3⟩
                        exact ⟨y1, y2, (h3.out _ (by omega) y2).2.mpr y3⟩
                    · rw [rh_set_j e]; exact h4 t t0 (by omega)
                  · have g39 : M4 39 ww = l := by rw [f4 _ _ (by omega), f1 _ _ (by omega), hl]
                    have g35 : M4 35 (60 * p + l) = M 35 (60 * p + l) := by rw [f4 _ _ (by omega), f1 _ _ (by omega)]
                    have g34 : M4 34 (60 * p + l) = M 34 (60 * p + l) := by rw [f4 _ _ (by omega), f1 _ _ (by omega)]
                    rw [g39]
                    rintro _ rfl
                    refine ⟨⟨by omega, by omega⟩, lr, ?_⟩
                    rintro _ rfl
                    simp (disch := omega) only [rh_set_a, g35, g34]
                    refine ⟨lr, lr, ?_⟩
                    rintro _ rfl
                    refine ⟨⟨by omega, by omega⟩, ?_⟩
                    have ek : k = W * H := (by omega)
                    rw [ek] at h4
                    rw [← hPost]
                    refine ⟨?_, ?_, ?_, ?_, ?_, ?_, ?_, ?_, rh_set_s _ _ _ _⟩
                    · exact (((f1.w (fun c j h => by unfold Giw; omega)).tr (f4.w (fun c j h => by unfold Giw; omega))).st (by omega)).st (by omega)
                    · rw [rh_set_j (by omega), rh_set_j (by omega), f4 _ _ (by omega), n1]
                    · rw [rh_set_j (by omega), rh_set_j (by omega), f4 _ _ (by omega), n2]
                    · rw [rh_set_n (by omega), rh_set_n (by omega), e9, rh_set_j (by omega), rh_set_j (by omega), f4 _ _ (by omega)]; exact LB.out
                    · rw [rh_set_j (by omega), rh_set_j (by omega), rh_set_j (by omega), rh_set_j (by omega), f4 _ _ (by omega), f4 _ _ (by omega)]; exact n4
                    · rw [rh_set_j (show (31 : Int) ≠ 82 by decide), rh_set_j (show (31 : Int) ≠ 83 by decide), f4 0 31 (by omega)]
                      intro i i0 i1
                      have := (PP.out i i0 i1).2.1
                      simp (disch := omega) only [rh_set_n]
                      rw [e9, f4.cell (a := 22) (fun j => (by omega)), f4.cell (a := 16) (fun j => (by omega)), f4.cell (a := 17) (fun j => (by omega)), f4.cell (a := 18) (fun j => (by omega)), f4.cell (a := 19) (fun j => (by omega))]
                      exact this
                    · intro t t0 t1
                      simp (disch := omega) only [rh_set_a]
                      rw [e9]
                      exact h4 t t0 t1
                    · rw [rh_set_j (by omega), rh_set_s]
              exact key3 _ 0 M3 rfl (by omega) hN0 (f3.w (fun c j h => .inl h)) rfl (fun t t0 t1 => by omega)
        refine key2 _ 0 M2 rfl (by omega) hc f (fun j j0 j1 => ?_)
        rw [h j j0 (by omega)]
        exact ⟨.inl rfl, fun z => absurd rfl z, fun ⟨j, a, b, _⟩ => by omega⟩
  exact key _ 0 M1 rfl (by omega) (by omega) frx.rf (fun j j0 j1 => by omega)
/-- columns -/
noncomputable def cof (ink : Int → Int) (W H : Int) : Int → Int := fun u => rh_if (0 ≤ u ∧ u < W) (ccn ink W u H.toNat) 0
theorem cof_0 (ink : Int → Int) (W H : Int) (i : Int) : 0 ≤ cof ink W H i := by
  unfold cof
  by_cases h : 0 ≤ i ∧ i < W
  · rw [rh_if_t h]; exact (ccn_b _ _ _ _).1
  · rw [rh_if_f h]; exact Int.le_refl _
abbrev Gcl (c j : Int) : Prop := (c = 0 ∧ (j = 78 ∨ j = 81)) ∨ (57 ≤ c ∧ c ≤ 59)
theorem m_cols (hm : rh_ms wm) {W H : Int} (M : rhM) (hW : M 0 17 = W) (hH : M 0 18 = H) (hW0 : 0 < W) (hWb : W ≤ 128) (hH0 : 0 ≤ H) (hHb : H ≤ 96) (hN : W * H ≤ 6144) :
    ∃ M', eS wm YX32_findPlaces 4 6 [(0, 2, 0)] [] M 186 [(0, 2, 0), (4, 0, 0)] [] M' ∧ frx Gcl M M' ∧ M' 0 81 = 0 ∧ (∀ u, 0 ≤ u → u ≤ W → M' 57 u = cof (M 11) W H u) ∧ M' 0 78 = rnc (cof (M 11) W H) W.toNat ∧ ∀ r, 0 ≤ r → r < rnc (cof (M 11) W H) W.toNat → M' 58 r = rnf (cof (M 11) W H) r W.toNat ∧ M' 59 r = rne (cof (M 11) W H) r W.toNat := by
  have hc := cof_0 (M 11) W H
  have hcW : cof (M 11) W H W = 0 := by unfold cof; rw [rh_if_f (fun z => by omega)]
  have hcu : ∀ u, 0 ≤ u → u < W → cof (M 11) W H u = ccn (M 11) W u H.toNat := fun u u0 u1 => by unfold cof; rw [rh_if_t ⟨u0, u1⟩]
  generalize cof (M 11) W H = c at *
  have main : ∀ (vq : Nat) (k : Nat) (M2 : rhM), (W + 1 - k).toNat = vq → (k : Int) ≤ W + 1 → frx Gcl M M2 → (∀ u : Int, 0 ≤ u → u < k → M2 57 u = c u) → M2 0 78 = rnc c k - rnw c k → (∀ r, 0 ≤ r → r < rnc c k → M2 58 r = rnf c r k) → (∀ r, 0 ≤ r → r < rnc c k - rnw c k → M2 59 r = rne c r k) → ∃ M', eS wm YX32_findPlaces 4 16 [(0, 2, 0), (3, 0, rnw c k), (4, 0, (k : Int))] [] M2 186 [(0, 2, 0), (4, 0, 0)] [] M' ∧ frx Gcl M M' ∧ M' 0 81 = 0 ∧ (∀ u, 0 ≤ u → u ≤ W → M' 57 u = c u) ∧ M' 0 78 = rnc c W.toNat ∧ ∀ r, 0 ≤ r → r < rnc c W.toNat → M' 58 r = rnf c r W.toNat ∧ M' 59 r = rne c r W.toNat := by
    intro vq
    induction vq using Nat.strongRecOn with
    | ind vq ih =>
      intro k M2 hvq k1 f h57 h78 h58 h59
      have eK : (k : Int) + 1 = ((k + 1 : Nat) : Int) := (by omega)
      have w17 : M2 0 17 = W := by rw [f _ _ (by omega), hW]
      have w18 : M2 0 18 = H := by rw [f _ _ (by omega), hH]
      have rb := rnc_b hc k
      have wb := rnw_b (c := c) k
      by_cases hk : (k : Int) ≤ W
      · -- one column
        have rb' := rnc_b hc (k + 1)
        have ew : rnw c (k + 1) = rh_if (0 < c k) 1 0 := rfl
        have ec : rnc c (k + 1) = rnc c k + rh_if (rnb c k) 1 0 := rfl
        have bi := rnb_i hc k
        have step : ∃ M3, eS wm YX32_findPlaces 4 16 [(0, 2, 0), (3, 0, rnw c k), (4, 0, (k : Int))] [] M2 16 [(0, 2, 0), (3, 0, rnw c (k + 1)), (4, 0, ((k + 1 : Nat) : Int))] [] M3 ∧ frx Gcl M M3 ∧ (∀ u, 0 ≤ u → u < ((k + 1 : Nat) : Int) → M3 57 u = c u) ∧ M3 0 78 = rnc c (k + 1) - rnw c (k + 1) ∧ (∀ r, 0 ≤ r → r < rnc c (k + 1) → M3 58 r = rnf c r (k + 1)) ∧ (∀ r, 0 ≤ r → r < rnc c (k + 1) - rnw c (k + 1) → M3 59 r = rne c r (k + 1)) := by
          have col : ∃ M4, eS wm YX32_findPlaces 4 36 [(0, 2, 0), (3, 0, rnw c k), (4, 0, (k : Int)), (5, 0, 0)] [] (rh_set M2 57 k 0) 36 [(0, 2, 0), (3, 0, rnw c k), (4, 0, (k : Int)), (5, 0, if (k : Int) < W then H else 0)] [] M4 ∧ frx (fun d j => d = 57 ∧ j = k) M2 M4 ∧ M4 57 k = c k := by
            by_cases hkW : (k : Int) < W
            · rw [if_pos hkW]
              have cl : ∀ (n v : Nat) (A : rhM), (v : Int) + n = H → frx (fun d j => d = 57 ∧ j = k) M2 A → A 57 k = ccn (M 11) W k v → ∃ M4, eS wm YX32_findPlaces 4 36 [(0, 2, 0), (3, 0, rnw c k), (4, 0, (k : Int)), (5, 0, (v : Int))] [] A 36 [(0, 2, 0), (3, 0, rnw c k), (4, 0, (k : Int)), (5, 0, H)] [] M4 ∧ frx (fun d j => d = 57 ∧ j = k) M2 M4 ∧ M4 57 k = c k := by
                intro n
                induction n with
                | zero =>
                  intro v A hv fA hA
                  refine ⟨A, by rw [show (v : Int) = H by omega]; exact eS.rf, fA, ?_⟩
                  rw [hA, hcu k (by omega) hkW, show H.toNat = v by omega]
                | succ n ihn =>
                  intro v A hv fA hA
                  have e11 : A 11 = M 11 := by rw [fA.cell (fun j => (by omega)), f.cell (fun j => (by omega))]
                  have kb := mul_lt (show (0 : Int) ≤ k by omega) hkW (show (0 : Int) ≤ v by omega) (show (v : Int) < H by omega)
                  have k0 := Int.mul_nonneg (show 0 ≤ W by omega) (show (0 : Int) ≤ v by omega)
                  have cb := ccn_b (M 11) W k v
                  obtain ⟨M4, e4, f4, h4⟩ := ihn (v + 1) (rh_set A 57 k (ccn (M 11) W k (v + 1))) (by omega) (fA.st ⟨rfl, rfl⟩) (rh_set_s _ _ _ _)
                  refine ⟨M4, eS.of (fun P HP => ?_), f4, h4⟩
                  refine rh1.of (rX32_findPlaces_36 hm _ _ _ _ ?_)
                  rw [fA 0 17 (by omega), fA 0 18 (by omega), w17, w18, e11, hA, Int.mul_comm (v : Int) W]
                  refine ⟨fun _ => ⟨⟨by omega, by omega⟩, ⟨by omega, by omega⟩, fun s es => ?_⟩, fun z => absurd ⟨by omega, hkW⟩ z⟩
                  have es2 : s = ccn (M 11) W k (v + 1) := by rw [es, rh_ifd]; rfl
                  have cb' := ccn_b (M 11) W k (v + 1)
                  rw [es2]
                  refine ⟨⟨by omega, by omega⟩, ⟨by omega, by omega⟩, ⟨by omega, by omega⟩, ?_⟩
                  rw [show (v : Int) + 1 = ((v + 1 : Nat) : Int) by omega]
                  exact rh1.s e4 HP
              have F0 : frx (fun d j => d = 57 ∧ j = (k : Int)) M2 (rh_set M2 57 k 0) := frx.rf.st ⟨rfl, rfl⟩
              exact cl H.toNat 0 _ (by omega) F0 (rh_set_s _ _ _ _)
            · rw [if_neg hkW]
              have F0 : frx (fun d j => d = 57 ∧ j = (k : Int)) M2 (rh_set M2 57 k 0) := frx.rf.st ⟨rfl, rfl⟩
              exact ⟨_, eS.rf, F0, by rw [rh_set_s, show (k : Int) = W by omega, hcW]⟩
          obtain ⟨M4, e4, f4, h4⟩ := col
          have w17' : M4 0 17 = W := by rw [f4 _ _ (by omega), w17]
          have w18' : M4 0 18 = H := by rw [f4 _ _ (by omega), w18]
          have e78 : M4 0 78 = rnc c k - rnw c k := by rw [f4 _ _ (by omega), h78]
          have fM4 : frx Gcl M M4 := f.tr (f4.w (fun d j z => by unfold Gcl; omega))
          have g57 : ∀ u, 0 ≤ u → u < ((k + 1 : Nat) : Int) → M4 57 u = c u := fun u u0 u1 => by
            by_cases q : u = k
            · rw [q]; exact h4
            · rw [f4 _ _ (by omega)]; exact h57 u u0 (by omega)
          have g58 : ∀ r, 0 ≤ r → r < rnc c k → M4 58 r = rnf c r k := fun r r0 r1 => by rw [f4 _ _ (by omega)]; exact h58 r r0 r1
          have g59 : ∀ r, 0 ≤ r → r < rnc c k - rnw c k → M4 59 r = rne c r k := fun r r0 r1 => by rw [f4 _ _ (by omega)]; exact h59 r r0 r1
          have iv := rn_inv hc k
          -- what follows the column
          have fin : ∃ M3, eS wm YX32_findPlaces 4 36 [(0, 2, 0), (3, 0, rnw c k), (4, 0, (k : Int)), (5, 0, if (k : Int) < W then H else 0)] [] M4 16 [(0, 2, 0), (3, 0, rnw c (k + 1)), (4, 0, ((k + 1 : Nat) : Int))] [] M3 ∧ frx Gcl M M3 ∧ (∀ u, 0 ≤ u → u < ((k + 1 : Nat) : Int) → M3 57 u = c u) ∧ M3 0 78 = rnc c (k + 1) - rnw c (k + 1) ∧ (∀ r, 0 ≤ r → r < rnc c (k + 1) → M3 58 r = rnf c r (k + 1)) ∧ (∀ r, 0 ≤ r → r < rnc c (k + 1) - rnw c (k + 1) → M3 59 r = rne c r (k + 1)) := by
            have nl : ¬ (((if (k : Int) < W then H else 0) < H) ∧ (k : Int) < W) := fun z => by
              rw [if_pos z.2] at z; omega
            replace g57 := Hid.mk g57
            replace g58 := Hid.mk g58
            replace g59 := Hid.mk g59
            by_cases q : 0 < c k
            · rw [rh_if_t q] at ew
              by_cases r : rnb c k
              · have wz := (bi.mp r).2
                rw [rh_if_t r] at ec
                rw [wz, Int.sub_zero] at e78 g59
                refine ⟨rh_set M4 58 (rnc c k) k, eS.of (fun P HP => ?_), fM4.st (by omega), fun u u0 u1 => ?_, ?_, fun s s0 s1 => ?_, fun s s0 s1 => ?_⟩
                · refine rh1.of (rX32_findPlaces_36 hm _ _ _ _ ?_)
                  rw [w17', w18', h4, e78]
                  refine ⟨fun z => absurd z nl, fun _ => ⟨⟨by omega, by omega⟩, fun _ => ⟨⟨by omega, by omega⟩, ?_⟩, fun z => absurd ⟨q, wz⟩ z⟩⟩
                  rintro _ rfl
                  simp (disch := omega) only [rh_set_a, h4]
                  refine ⟨⟨by omega, by omega⟩, ?_⟩
                  rintro _ rfl
                  refine ⟨⟨by omega, by omega⟩, ?_⟩
                  rw [rh_if_t q, eK]
                  rw [ew] at HP
                  exact HP
                · rw [rh_set_a (by omega)]; exact g57.out u u0 u1
                · rw [rh_set_a (by omega), e78]; omega
                · simp only [rnf]
                  by_cases e : s = rnc c k
                  · rw [e, rh_set_s, rh_if_t ⟨r, rfl⟩]
                  · rw [rh_set_j e, rh_if_f (fun z => e z.2.symm)]; exact g58.out s s0 (by omega)
                · simp only [rne]
                  rw [rh_set_a (by omega), rh_if_f (fun z => by omega)]
                  exact g59.out s s0 (by omega)
              · have w1 : rnw c k = 1 := by
                  have : rnw c k ≠ 0 := fun z => r (bi.mpr ⟨q, z⟩)
                  omega
                rw [rh_if_f r, Int.add_zero] at ec
                refine ⟨M4, eS.of (fun P HP => ?_), fM4, g57.out, by rw [e78]; omega, fun s s0 s1 => ?_, fun s s0 s1 => ?_⟩
                · refine rh1.of (rX32_findPlaces_36 hm _ _ _ _ ?_)
                  rw [w17', w18', h4]
                  refine ⟨fun z => absurd z nl, fun _ => ⟨⟨by omega, by omega⟩, fun z => by omega, fun _ => ⟨⟨by omega, by omega⟩, fun z => by omega, fun _ => ?_⟩⟩⟩
                  rintro _ rfl
                  rw [h4]
                  refine ⟨⟨by omega, by omega⟩, ?_⟩
                  rintro _ rfl
                  refine ⟨⟨by omega, by omega⟩, ?_⟩
                  rw [rh_if_t q, eK]
                  rw [ew] at HP
                  exact HP
                · simp only [rnf]; rw [rh_if_f (fun z => r z.1)]; exact g58.out s s0 (by omega)
                · simp only [rne]; rw [rh_if_f (fun z => by omega)]; exact g59.out s s0 (by omega)
            · rw [rh_if_f q] at ew
              rw [rh_if_f (fun z => q z.1), Int.add_zero] at ec
              have cz : c k = 0 := by have := hc k; omega
              have nf : ∀ s, rnf c s (k + 1) = rnf c s k := fun s => by simp only [rnf]; rw [rh_if_f (fun z => q z.1.1)]
              have ne : ∀ s, rne c s (k + 1) = rne c s k := fun s => by simp only [rne]; rw [rh_if_f (fun z => q z.1)]
              by_cases w1 : rnw c k = 0
              · refine ⟨M4, eS.of (fun P HP => ?_), fM4, g57.out, by rw [e78]; omega, fun s s0 s1 => ?_, fun s s0 s1 => ?_⟩
                · refine rh1.of (rX32_findPlaces_36 hm _ _ _ _ ?_)
                  rw [w17', w18', h4]
                  refine ⟨fun z => absurd z nl, fun _ => ⟨⟨by omega, by omega⟩, fun z => absurd z.1 q, fun _ => ⟨⟨by omega, by omega⟩, fun z => absurd w1 z.2, fun _ => ?_⟩⟩⟩
                  rintro _ rfl
                  rw [h4]
                  refine ⟨⟨by omega, by omega⟩, ?_⟩
                  rintro _ rfl
                  refine ⟨⟨by omega, by omega⟩, ?_⟩
                  rw [rh_if_f q, eK]
                  rw [ew] at HP
                  exact HP
                · rw [nf]; exact g58.out s s0 (by omega)
                · rw [ne]; exact g59.out s s0 (by omega)
              · have w1' : rnw c k = 1 := (by omega)
                rw [w1'] at e78 g59
                have ie := iv.2.2.1 w1'
                refine ⟨rh_set (rh_set M4 59 (rnc c k - 1) k) 0 78 (rnc c k - 1 + 1), eS.of (fun P HP => ?_), (fM4.st (by omega)).st (by omega), fun u u0 u1 => ?_, by rw [rh_set_s]; omega, fun s s0 s1 => ?_, fun s s0 s1 => ?_⟩
                · refine rh1.of (rX32_findPlaces_36 hm _ _ _ _ ?_)
                  rw [w17', w18', h4, e78]
                  refine ⟨fun z => absurd z nl, fun _ => ⟨⟨by omega, by omega⟩, fun z => absurd z.1 q, fun _ => ⟨⟨by omega, by omega⟩, fun _ => ⟨⟨by omega, by omega⟩, ?_⟩, fun z => absurd ⟨cz, w1⟩ z⟩⟩⟩
                  rintro _ rfl
                  simp (disch := omega) only [rh_set_a, e78]
                  refine ⟨⟨by omega, by omega⟩, ?_⟩
                  rintro _ rfl
                  simp (disch := omega) only [rh_set_a, h4]
                  refine ⟨⟨by omega, by omega⟩, ?_⟩
                  rintro _ rfl
                  refine ⟨⟨by omega, by omega⟩, ?_⟩
                  rw [rh_if_f q, eK]
                  rw [ew] at HP
                  exact HP
                · rw [rh_set_a (by omega), rh_set_a (by omega)]; exact g57.out u u0 u1
                · rw [rh_set_a (by omega), rh_set_a (by omega), nf]; exact g58.out s s0 (by omega)
                · rw [rh_set_a (by omega), ne]
                  by_cases e : s = rnc c k - 1
                  · rw [e, rh_set_s, ie]
                  · rw [rh_set_j e]; exact g59.out s s0 (by omega)
          obtain ⟨M3, e3, a1, a2, a3, a4, a5⟩ := fin
          refine ⟨M3, ?_, a1, a2, a3, a4, a5⟩
          refine eS.tr ?_ (e4.tr e3)
          refine eS.of (fun P HP => ?_)
          refine rh1.of (rX32_findPlaces_16 hm _ _ _ ?_)
          rw [w17]
          exact ⟨fun _ => ⟨⟨by omega, by omega⟩, HP⟩, fun z => absurd hk z⟩
        obtain ⟨M3, e3, a1, a2, a3, a4, a5⟩ := step
        obtain ⟨M', e', b1⟩ := ih _ (by omega) (k + 1) M3 rfl (by omega) a1 a2 a3 a4 a5
        exact ⟨M', e3.tr e', b1⟩
      · have ek : k = W.toNat + 1 := (by omega)
        have ge := rn_ge (c := c) (a := W.toNat) 1 (fun j j0 j1 => by rw [show j = W by omega]; exact hcW)
        rw [← ek] at ge
        have wz : rnw c k = 0 := by
          rw [ek]
          show rh_if (0 < c (W.toNat : Int)) 1 0 = 0
          rw [show (W.toNat : Int) = W by omega, hcW, rh_if_f (by omega)]
        rw [wz, Int.sub_zero] at h78 h59
        refine ⟨rh_set M2 0 81 0, eS.of (fun P HP => ?_), f.st (by omega), rh_set_s _ _ _ _, fun u u0 u1 => ?_, ?_, fun r r0 r1 => ?_⟩
        · refine rh1.of (rX32_findPlaces_16 hm _ _ _ ?_)
          rw [w17]
          exact ⟨fun z => absurd z hk, fun _ => HP⟩
        · rw [rh_set_a (by omega)]; exact h57 u u0 (by omega)
        · rw [rh_set_j (by omega), h78, ge.1]
        · rw [rh_set_a (by omega), rh_set_a (by omega), h58 r r0 (by rw [ge.1]; exact r1), h59 r r0 (by rw [ge.1]; exact r1)]
          exact ge.2 r
  have F0 : frx Gcl M (rh_set M 0 78 0) := frx.rf.st (by omega)
  obtain ⟨M', e', b1⟩ := main _ 0 (rh_set M 0 78 0) rfl (by omega) F0 (fun u u0 u1 => by omega) (rh_set_s _ _ _ _) (fun r r0 r1 => by simp only [rnc] at r1; omega) (fun r r0 r1 => by simp only [rnc, rnw] at r1; omega)
  refine ⟨M', ?_, b1⟩
  refine eS.tr ?_ e'
  refine eS.of (fun P HP => ?_)
  refine rh1.of (rX32_findPlaces_6 hm _ ?_)
  exact HP
end CutsM
