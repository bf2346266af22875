/-! ===== LAYER 2: pieces of a block put together (group, findSets) ===== -/
section Group
variable {wh wm : rhW} {L T R B : Int → Int} {np : Int}
/-- pieces: their boxes -/
def Pcb (L T R B : Int → Int) (np : Int) : Prop := ∀ i, 0 ≤ i → i < np → (0 ≤ L i ∧ L i < R i ∧ R i ≤ 128) ∧ (0 ≤ T i ∧ T i < B i ∧ B i ≤ 96)
def PcH (M : rhM) (x np : Int) (L T R B : Int → Int) : Prop := M x 6 = np ∧ ∀ i, 0 ≤ i → i < np → M (x + 5) i = L i ∧ M (x + 6) i = T i ∧ M (x + 7) i = R i ∧ M (x + 8) i = B i
def PcN (M : rhM) (np : Int) (L T R B : Int → Int) : Prop := M 0 31 = np ∧ ∀ i, 0 ≤ i → i < np → M 16 i = L i ∧ M 17 i = T i ∧ M 18 i = R i ∧ M 19 i = B i
theorem PcH.fx {M M' : rhM} {x : Int} (h : PcH M x np L T R B) (f0 : M' x 6 = M x 6) (f : ∀ a : Int, x + 5 ≤ a → a ≤ x + 8 → M' a = M a) : PcH M' x np L T R B :=
  ⟨f0.trans h.1, fun i i0 i1 => by rw [f (x + 5) (by omega) (by omega), f (x + 6) (by omega) (by omega), f (x + 7) (by omega) (by omega), f (x + 8) (by omega) (by omega)]; exact h.2 i i0 i1⟩
theorem PcN.fx {M M' : rhM} (h : PcN M np L T R B) (f0 : M' 0 31 = M 0 31) (f : ∀ a : Int, 16 ≤ a → a ≤ 19 → M' a = M a) : PcN M' np L T R B :=
  ⟨f0.trans h.1, fun i i0 i1 => by rw [f 16 (by omega) (by omega), f 17 (by omega) (by omega), f 18 (by omega) (by omega), f 19 (by omega) (by omega)]; exact h.2 i i0 i1⟩
theorem c_areNearH (hh : rh_hs wh) {x i j : Int} (hx : rh_bl wh 0 x 0) (M : rhM) (hP : PcH M x np L T R B) (hn : np ≤ 300) (hb : Pcb L T R B np) (hi : 0 ≤ i ∧ i < np) (hj : 0 ≤ j ∧ j < np) :
    eC wh YX30_areNear 1 [(2, x), (0, i), (0, j)] M (rh_if (near T B i j) 1 0) M := by
  refine eC.of1 (rC1.of (by decide) (LE0 rfl) ?_)
  refine rh1.of (rX30_areNear_0 hh _ _ _ _ hx ?_)
  obtain ⟨-, i2, -, i4⟩ := hP.2 i hi.1 hi.2
  obtain ⟨-, j2, -, j4⟩ := hP.2 j hj.1 hj.2
  obtain ⟨-, i6⟩ := hb i hi.1 hi.2
  obtain ⟨-, j6⟩ := hb j hj.1 hj.2
  rw [i2, i4, j2, j4]
  replace hi : 0 ≤ i ∧ i < 300 := ⟨by omega, by omega⟩
  replace hj : 0 ≤ j ∧ j < 300 := ⟨by omega, by omega⟩
  refine ⟨hi, hj, hi, hj, fun v ev => ?_⟩
  have ev2 : v = min (B i) (B j) - max (T i) (T j) := by
    rw [ev, rh_ifd, rh_ifd]
    split <;> split <;> omega
  refine ⟨⟨by omega, by omega⟩, hi, hi, hj, hj, ⟨by omega, by omega⟩, ⟨by omega, by omega⟩, ⟨by omega, by omega⟩, rh_if_cg ?_, rfl⟩
  unfold near
  rw [rh_ifd, ev2]
  split <;> omega
theorem c_areNearM (hm : rh_ms wm) {i j : Int} (M : rhM) (hP : PcN M np L T R B) (hn : np ≤ 300) (hb : Pcb L T R B np) (hi : 0 ≤ i ∧ i < np) (hj : 0 ≤ j ∧ j < np) :
    eC wm YX32_areNear 1 [(2, 0), (0, i), (0, j)] M (rh_if (near T B i j) 1 0) M := by
  refine eC.of1 (rC1.of (by decide) (LE0 rfl) ?_)
  refine rh1.of (rX32_areNear_0 hm _ _ _ ?_)
  obtain ⟨-, i2, -, i4⟩ := hP.2 i hi.1 hi.2
  obtain ⟨-, j2, -, j4⟩ := hP.2 j hj.1 hj.2
  obtain ⟨-, i6⟩ := hb i hi.1 hi.2
  obtain ⟨-, j6⟩ := hb j hj.1 hj.2
  rw [i2, i4, j2, j4]
  replace hi : 0 ≤ i ∧ i < 300 := ⟨by omega, by omega⟩
  replace hj : 0 ≤ j ∧ j < 300 := ⟨by omega, by omega⟩
  refine ⟨hi, hj, hi, hj, fun v ev => ?_⟩
  have ev2 : v = min (B i) (B j) - max (T i) (T j) := by
    rw [ev, rh_ifd, rh_ifd]
    split <;> split <;> omega
  refine ⟨⟨by omega, by omega⟩, hi, hi, hj, hj, ⟨by omega, by omega⟩, ⟨by omega, by omega⟩, ⟨by omega, by omega⟩, rh_if_cg ?_, rfl⟩
  unfold near
  rw [rh_ifd, ev2]
  split <;> omega
theorem c_group (hh : rh_hs wh) {x b : Int} (hx : rh_bl wh 0 x 0) (hy : rh_bl wh 1 (x + 9) 0) (hx2 : 100 ≤ x) (M : rhM) (hP : PcH M x np L T R B) (hnp : 0 ≤ np ∧ np ≤ 300) (hb : Pcb L T R B np) :
    rC1 wh YX30_group 2 [(2, x + 9), (2, x), (0, b)] M (fun r M' => frx (fun c _ => c = (x + 9 + 25)) M M' ∧ Grp T B (M (x + 9 + 24)) b np (M' (x + 9 + 25))) := by
  refine rC1.of (by decide) (LE0 rfl) ?_
  refine rh1.of (rX30_group_0 hh _ _ _ _ hy hx ?_)
  have key : ∀ (vq : Nat) (k : Int) (M' : rhM), (np - k).toNat = vq → (0 ≤ k) → (k ≤ np) → (frx (fun c _ => c = (x + 9 + 25)) M M') → ((∀ i, 0 ≤ i → i < k → M' (x + 9 + 25) i = if M (x + 9 + 24) i = b then i else -1)) → rh1 wh YX30_group 2 2 [(0, 2, x + 9), (1, 2, x), (2, 0, b), (3, 0, k)] [] M' (fun r M' => frx (fun c _ => c = (x + 9 + 25)) M M' ∧ Grp T B (M (x + 9 + 24)) b np (M' (x + 9 + 25))) := by
    intro vq
    induction vq using Nat.strongRecOn with
    | ind vq ih =>
      intro k M' hvq k0 k1 f h1
      refine rh1.of (rX30_group_2 hh _ _ _ _ _ hy hx ?_)
      rw [show M' x 6 = np by rw [f _ _ (by omega)]; exact hP.1]
      refine ⟨fun c => ⟨⟨by omega, by omega⟩, fun v ev => ⟨⟨by omega, by omega⟩, ⟨by omega, by omega⟩, ih _ (by omega) (k + 1) _ rfl (by omega) (by omega) (f.st rfl) (fun i i0 i1 => ?_)⟩⟩, fun c => ?_⟩
      · by_cases q : i = k
        · rw [q, rh_set_s, ev, f (x + 9 + 24) k (by omega), rh_ifd]
        · rw [rh_set_j q]; exact h1 i i0 (by omega)
      · have G0 : Gri T B (M (x + 9 + 24)) b np (M' (x + 9 + 25)) := Gri.start.cg (fun i i0 i1 => h1 i i0 (by omega))
        clear h1
        have out : ∀ (s : Nat) (M' : rhM) (mo9 : Int), mo9 ≠ 0 → (sm (M' (x + 9 + 25)) np.toNat).toNat = s → frx (fun c _ => c = (x + 9 + 25)) M M' → Gri T B (M (x + 9 + 24)) b np (M' (x + 9 + 25)) → rh1 wh YX30_group 2 39 [(0, 2, x + 9), (1, 2, x), (3, 0, mo9)] [] M' (fun r M' => frx (fun c _ => c = (x + 9 + 25)) M M' ∧ Grp T B (M (x + 9 + 24)) b np (M' (x + 9 + 25))) := by
          intro s
          induction s using Nat.strongRecOn with
          | ind s iho =>
            intro M' mo9 hmo9 hs f G
            refine rh1.of (rX30_group_39 hh _ _ _ _ hy hx ?_)
            refine ⟨fun _ => ?_, fun c => absurd hmo9 c⟩
            have hs0 := G.sm
            have in1 : ∀ (vq : Nat) (i mo : Int) (M2 : rhM), (np - i).toNat = vq → 0 ≤ i → i ≤ np → frx (fun c _ => c = (x + 9 + 25)) M M2 → Gri T B (M (x + 9 + 24)) b np (M2 (x + 9 + 25)) → (mo = 0 → sm (M2 (x + 9 + 25)) np.toNat = sm (M' (x + 9 + 25)) np.toNat) → (mo ≠ 0 → sm (M2 (x + 9 + 25)) np.toNat < sm (M' (x + 9 + 25)) np.toNat) → (mo = 0 → ∀ u v, 0 ≤ u → u < i → 0 ≤ v → v < np → M2 (x + 9 + 25) u ≠ -1 → near T B u v → ¬ (M2 (x + 9 + 25) u < M2 (x + 9 + 25) v)) → rh1 wh YX30_group 2 48 [(0, 2, x + 9), (1, 2, x), (3, 0, mo), (4, 0, i)] [] M2 (fun r M' => frx (fun c _ => c = (x + 9 + 25)) M M' ∧ Grp T B (M (x + 9 + 24)) b np (M' (x + 9 + 25))) := by
              intro vq
              induction vq using Nat.strongRecOn with
              | ind vq ih1 =>
                intro i mo M2 hvq i0 i1 f2 G2 e1 e2 hf
                have hP2 : PcH M2 x np L T R B := hP.fx (f2 x 6 (by omega)) (fun a a0 a1 => f2.cell (fun j => (by omega)))
                refine rh1.of (rX30_group_48 hh _ _ _ _ _ hy hx ?_)
                rw [hP2.1]
                refine ⟨fun c => ?_, fun c => ?_⟩
                · have in2 : ∀ (vq : Nat) (j mo : Int) (M2 : rhM), (np - j).toNat = vq → 0 ≤ j → j ≤ np → frx (fun c _ => c = (x + 9 + 25)) M M2 → Gri T B (M (x + 9 + 24)) b np (M2 (x + 9 + 25)) → (mo = 0 → sm (M2 (x + 9 + 25)) np.toNat = sm (M' (x + 9 + 25)) np.toNat) → (mo ≠ 0 → sm (M2 (x + 9 + 25)) np.toNat < sm (M' (x + 9 + 25)) np.toNat) → (mo = 0 → ∀ u v, 0 ≤ u → u < i → 0 ≤ v → v < np → M2 (x + 9 + 25) u ≠ -1 → near T B u v → ¬ (M2 (x + 9 + 25) u < M2 (x + 9 + 25) v)) → (mo = 0 → ∀ v, 0 ≤ v → v < j → M2 (x + 9 + 25) i ≠ -1 → near T B i v → ¬ (M2 (x + 9 + 25) i < M2 (x + 9 + 25) v)) → rh1 wh YX30_group 2 60 [(0, 2, x + 9), (1, 2, x), (3, 0, mo), (4, 0, i), (5, 0, j)] [] M2 (fun r M' => frx (fun c _ => c = (x + 9 + 25)) M M' ∧ Grp T B (M (x + 9 + 24)) b np (M' (x + 9 + 25))) := by
                    intro vq
                    induction vq using Nat.strongRecOn with
                    | ind vq ih2 =>
                      intro j mo M2 hvq j0 j1 f2 G2 e1 e2 hf hj
                      have hP2 : PcH M2 x np L T R B := hP.fx (f2 x 6 (by omega)) (fun a a0 a1 => f2.cell (fun j => (by omega)))
                      replace hf := Hid.mk hf
                      replace hj := Hid.mk hj
                      replace e1 := Hid.mk e1
                      replace e2 := Hid.mk e2
                      have hir : 0 ≤ i ∧ i < 300 := ⟨by omega, by omega⟩
                      refine rh1.of (rX30_group_60 hh _ _ _ _ _ _ hy hx ?_)
                      rw [hP2.1]
                      refine ⟨fun _ => hir, fun d => ?_, fun d => ⟨⟨by omega, by omega⟩, ?_⟩⟩
                      · have hjr : 0 ≤ j ∧ j < 300 := ⟨by omega, by omega⟩
                        have skip : ¬ (M2 (x + 9 + 25) i < M2 (x + 9 + 25) j ∧ near T B i j) → rh1 wh YX30_group 2 60 [(0, 2, x + 9), (1, 2, x), (3, 0, mo), (4, 0, i), (5, 0, j + 1)] [] M2 (fun r M' => frx (fun c _ => c = (x + 9 + 25)) M M' ∧ Grp T B (M (x + 9 + 24)) b np (M' (x + 9 + 25))) := fun z => by
                          refine ih2 _ (by omega) (j + 1) mo M2 rfl (by omega) (by omega) f2 G2 e1.out e2.out hf.out (fun m0 v v0 v1 vi vn vl => ?_)
                          by_cases q : v = j
                          · rw [q] at vn vl; exact z ⟨vl, vn⟩
                          · exact hj.out m0 v v0 (by omega) vi vn vl
                        replace skip := Hid.mk skip
                        refine ⟨hjr, hir, fun y => ?_, fun y => ⟨⟨by omega, by omega⟩, skip.out (fun z => y z.1)⟩⟩
                        · refine rh1.s (vX30_group_102 (c_areNearH hh hx M2 hP2 hnp.2 hb ⟨by omega, by omega⟩ ⟨by omega, by omega⟩) (LE0 rfl)) ?_
                          refine rh1.of (rX30_group_105 hh _ _ _ _ _ _ _ hy hx ?_)
                          rw [if1_ne]
                          refine ⟨fun z => ⟨hir, hjr, ⟨by omega, by omega⟩, ?_⟩, fun z => ⟨⟨by omega, by omega⟩, skip.out (fun y => z y.2)⟩⟩
                          have G3 := G2.put (i := i) (j := j) (by omega) (by omega) (by omega) (by omega) d.2 y z
                          have eS : sm (upz (M2 (x + 9 + 25)) j (M2 (x + 9 + 25) i)) np.toNat = sm (M2 (x + 9 + 25)) np.toNat + M2 (x + 9 + 25) i - M2 (x + 9 + 25) j := sm_up j0 _ (by omega)
                          have less : sm (M2 (x + 9 + 25)) np.toNat ≤ sm (M' (x + 9 + 25)) np.toNat := by
                            by_cases q : mo = 0
                            · rw [e1.out q]; exact Int.le_refl _
                            · have := e2.out q; omega
                          refine ih2 _ (by omega) (j + 1) 1 _ rfl (by omega) (by omega) (f2.st rfl) (by rw [rh_set_f]; exact G3) (fun q => absurd q (by decide)) (fun _ => by rw [rh_set_f, eS]; omega) (fun q => absurd q (by decide)) (fun q => absurd q (by decide))
                      · refine ih1 _ (by omega) (i + 1) mo M2 rfl (by omega) (by omega) f2 G2 e1.out e2.out (fun m0 u v u0 u1 v0 v1 h1 h2 => ?_)
                        by_cases q : u = i
                        · rw [q] at h1 h2 ⊢
                          have : ¬ (j < np) := fun z => d ⟨z, h1⟩
                          exact hj.out m0 v v0 (by omega) h1 h2
                        · exact hf.out m0 u v u0 (by omega) v0 v1 h1 h2
                  exact in2 _ 0 mo M2 rfl (by omega) hnp.1 f2 G2 e1 e2 hf (fun _ v v0 v1 => by omega)
                · by_cases q : mo = 0
                  · rw [q]
                    refine rh1.of (rX30_group_39 hh _ _ _ _ hy hx ?_)
                    refine ⟨fun z => absurd rfl z, fun _ => ⟨f2, G2, fun u v u0 u1 v0 v1 hu hv hn => ?_⟩⟩
                    have h1 := hf q u v u0 (by omega) v0 v1 hu hn
                    have h2 := hf q v u v0 (by omega) u0 u1 hv (near_c hn)
                    omega
                  · have e3 := e2 q
                    have h9 := G2.sm
                    exact iho _ (show (sm (M2 (x + 9 + 25)) np.toNat).toNat < s by omega) M2 mo q rfl f2 G2
            exact in1 _ 0 0 M' rfl (by omega) hnp.1 f G (fun _ => rfl) (fun z => absurd rfl z) (fun _ u v u0 u1 => by omega)
        exact out _ M' 1 (by decide) rfl f G0
  exact key _ 0 M rfl (by omega) hnp.1 frx.rf (fun i i0 i1 => by omega)
theorem c_findSets (hm : rh_ms wm) {b : Int} (M : rhM) (hP : PcN M np L T R B) (hnp : 0 ≤ np ∧ np ≤ 300) (hb : Pcb L T R B np) :
    rC1 wm YX32_findSets 2 [(2, 0), (0, b)] M (fun r M' => frx (fun c _ => c = 49) M M' ∧ Grp T B (M 48) b np (M' 49)) := by
  refine rC1.of (by decide) (LE0 rfl) ?_
  refine rh1.of (rX32_findSets_0 hm _ _ ?_)
  have key : ∀ (vq : Nat) (k : Int) (M' : rhM), (np - k).toNat = vq → (0 ≤ k) → (k ≤ np) → (frx (fun c _ => c = 49) M M') → ((∀ i, 0 ≤ i → i < k → M' 49 i = if M 48 i = b then i else -1)) → rh1 wm YX32_findSets 2 2 [(0, 2, 0), (1, 0, b), (2, 0, k)] [] M' (fun r M' => frx (fun c _ => c = 49) M M' ∧ Grp T B (M 48) b np (M' 49)) := by
    intro vq
    induction vq using Nat.strongRecOn with
    | ind vq ih =>
      intro k M' hvq k0 k1 f h1
      refine rh1.of (rX32_findSets_2 hm _ _ _ ?_)
      rw [show M' 0 31 = np by rw [f _ _ (by omega)]; exact hP.1]
      refine ⟨fun c => ⟨⟨by omega, by omega⟩, fun v ev => ⟨⟨by omega, by omega⟩, ⟨by omega, by omega⟩, ih _ (by omega) (k + 1) _ rfl (by omega) (by omega) (f.st rfl) (fun i i0 i1 => ?_)⟩⟩, fun c => ?_⟩
      · by_cases q : i = k
        · rw [q, rh_set_s, ev, f 48 k (by omega), rh_ifd]
        · rw [rh_set_j q]; exact h1 i i0 (by omega)
      · have G0 : Gri T B (M 48) b np (M' 49) := Gri.start.cg (fun i i0 i1 => h1 i i0 (by omega))
        clear h1
        have out : ∀ (s : Nat) (M' : rhM) (mo9 : Int), mo9 ≠ 0 → (sm (M' 49) np.toNat).toNat = s → frx (fun c _ => c = 49) M M' → Gri T B (M 48) b np (M' 49) → rh1 wm YX32_findSets 2 39 [(0, 2, 0), (2, 0, mo9)] [] M' (fun r M' => frx (fun c _ => c = 49) M M' ∧ Grp T B (M 48) b np (M' 49)) := by
          intro s
          induction s using Nat.strongRecOn with
          | ind s iho =>
            intro M' mo9 hmo9 hs f G
            refine rh1.of (rX32_findSets_39 hm _ _ ?_)
            refine ⟨fun _ => ?_, fun c => absurd hmo9 c⟩
            have hs0 := G.sm
            have in1 : ∀ (vq : Nat) (i mo : Int) (M2 : rhM), (np - i).toNat = vq → 0 ≤ i → i ≤ np → frx (fun c _ => c = 49) M M2 → Gri T B (M 48) b np (M2 49) → (mo = 0 → sm (M2 49) np.toNat = sm (M' 49) np.toNat) → (mo ≠ 0 → sm (M2 49) np.toNat < sm (M' 49) np.toNat) → (mo = 0 → ∀ u v, 0 ≤ u → u < i → 0 ≤ v → v < np → M2 49 u ≠ -1 → near T B u v → ¬ (M2 49 u < M2 49 v)) → rh1 wm YX32_findSets 2 47 [(0, 2, 0), (2, 0, mo), (3, 0, i)] [] M2 (fun r M' => frx (fun c _ => c = 49) M M' ∧ Grp T B (M 48) b np (M' 49)) := by
              intro vq
              induction vq using Nat.strongRecOn with
              | ind vq ih1 =>
                intro i mo M2 hvq i0 i1 f2 G2 e1 e2 hf
                have hP2 : PcN M2 np L T R B := hP.fx (f2 0 31 (by omega)) (fun a a0 a1 => f2.cell (fun j => (by omega)))
                refine rh1.of (rX32_findSets_47 hm _ _ _ ?_)
                rw [hP2.1]
                refine ⟨fun c => ?_, fun c => ?_⟩
                · have in2 : ∀ (vq : Nat) (j mo : Int) (M2 : rhM), (np - j).toNat = vq → 0 ≤ j → j ≤ np → frx (fun c _ => c = 49) M M2 → Gri T B (M 48) b np (M2 49) → (mo = 0 → sm (M2 49) np.toNat = sm (M' 49) np.toNat) → (mo ≠ 0 → sm (M2 49) np.toNat < sm (M' 49) np.toNat) → (mo = 0 → ∀ u v, 0 ≤ u → u < i → 0 ≤ v → v < np → M2 49 u ≠ -1 → near T B u v → ¬ (M2 49 u < M2 49 v)) → (mo = 0 → ∀ v, 0 ≤ v → v < j → M2 49 i ≠ -1 → near T B i v → ¬ (M2 49 i < M2 49 v)) → rh1 wm YX32_findSets 2 58 [(0, 2, 0), (2, 0, mo), (3, 0, i), (4, 0, j)] [] M2 (fun r M' => frx (fun c _ => c = 49) M M' ∧ Grp T B (M 48) b np (M' 49)) := by
                    intro vq
                    induction vq using Nat.strongRecOn with
                    | ind vq ih2 =>
                      intro j mo M2 hvq j0 j1 f2 G2 e1 e2 hf hj
                      have hP2 : PcN M2 np L T R B := hP.fx (f2 0 31 (by omega)) (fun a a0 a1 => f2.cell (fun j => (by omega)))
                      replace hf := Hid.mk hf
                      replace hj := Hid.mk hj
                      replace e1 := Hid.mk e1
                      replace e2 := Hid.mk e2
                      have hir : 0 ≤ i ∧ i < 300 := ⟨by omega, by omega⟩
                      refine rh1.of (rX32_findSets_58 hm _ _ _ _ ?_)
                      rw [hP2.1]
                      refine ⟨fun _ => hir, fun d => ?_, fun d => ⟨⟨by omega, by omega⟩, ?_⟩⟩
                      · have hjr : 0 ≤ j ∧ j < 300 := ⟨by omega, by omega⟩
                        have skip : ¬ (M2 49 i < M2 49 j ∧ near T B i j) → rh1 wm YX32_findSets 2 58 [(0, 2, 0), (2, 0, mo), (3, 0, i), (4, 0, j + 1)] [] M2 (fun r M' => frx (fun c _ => c = 49) M M' ∧ Grp T B (M 48) b np (M' 49)) := fun z => by
                          refine ih2 _ (by omega) (j + 1) mo M2 rfl (by omega) (by omega) f2 G2 e1.out e2.out hf.out (fun m0 v v0 v1 vi vn vl => ?_)
                          by_cases q : v = j
                          · rw [q] at vn vl; exact z ⟨vl, vn⟩
                          · exact hj.out m0 v v0 (by omega) vi vn vl
                        replace skip := Hid.mk skip
                        refine ⟨hjr, fun _ => hjr, fun _ => hir, fun y => ?_, fun y => ⟨⟨by omega, by omega⟩, skip.out (fun z => y ⟨?_, z.1⟩)⟩⟩
                        rotate_left
                        · have g9 := (G2.1 i (by omega) (by omega)).2 d.2
                          intro w
                          rw [w] at z
                          have := z.1
                          omega
                        replace y := y.2
                        · refine rh1.s (vX32_findSets_108 hm (c_areNearM hm M2 hP2 hnp.2 hb ⟨by omega, by omega⟩ ⟨by omega, by omega⟩) (LE0 rfl)) ?_
                          refine rh1.of (rX32_findSets_111 hm _ _ _ _ _ ?_)
                          rw [if1_ne]
                          refine ⟨fun z => ⟨hir, hjr, ⟨by omega, by omega⟩, ?_⟩, fun z => ⟨⟨by omega, by omega⟩, skip.out (fun y => z y.2)⟩⟩
                          have G3 := G2.put (i := i) (j := j) (by omega) (by omega) (by omega) (by omega) d.2 y z
                          have eS : sm (upz (M2 49) j (M2 49 i)) np.toNat = sm (M2 49) np.toNat + M2 49 i - M2 49 j := sm_up j0 _ (by omega)
                          have less : sm (M2 49) np.toNat ≤ sm (M' 49) np.toNat := by
                            by_cases q : mo = 0
                            · rw [e1.out q]; exact Int.le_refl _
                            · have := e2.out q; omega
                          refine ih2 _ (by omega) (j + 1) 1 _ rfl (by omega) (by omega) (f2.st rfl) (by rw [rh_set_f]; exact G3) (fun q => absurd q (by decide)) (fun _ => by rw [rh_set_f, eS]; omega) (fun q => absurd q (by decide)) (fun q => absurd q (by decide))
                      · refine ih1 _ (by omega) (i + 1) mo M2 rfl (by omega) (by omega) f2 G2 e1.out e2.out (fun m0 u v u0 u1 v0 v1 h1 h2 => ?_)
                        by_cases q : u = i
                        · rw [q] at h1 h2 ⊢
                          have : ¬ (j < np) := fun z => d ⟨z, h1⟩
                          exact hj.out m0 v v0 (by omega) h1 h2
                        · exact hf.out m0 u v u0 (by omega) v0 v1 h1 h2
                  exact in2 _ 0 mo M2 rfl (by omega) hnp.1 f2 G2 e1 e2 hf (fun _ v v0 v1 => by omega)
                · by_cases q : mo = 0
                  · rw [q]
                    refine rh1.of (rX32_findSets_39 hm _ _ ?_)
                    refine ⟨fun z => absurd rfl z, fun _ => ⟨f2, G2, fun u v u0 u1 v0 v1 hu hv hn => ?_⟩⟩
                    have h1 := hf q u v u0 (by omega) v0 v1 hu hn
                    have h2 := hf q v u v0 (by omega) u0 u1 hv (near_c hn)
                    omega
                  · have e3 := e2 q
                    have h9 := G2.sm
                    exact iho _ (show (sm (M2 49) np.toNat).toNat < s by omega) M2 mo q rfl f2 G2
            exact in1 _ 0 0 M' rfl (by omega) hnp.1 f G (fun _ => rfl) (fun z => absurd rfl z) (fun _ u v u0 u1 => by omega)
        exact out _ M' 1 (by decide) rfl f G0
  exact key _ 0 M rfl (by omega) hnp.1 frx.rf (fun i i0 i1 => by omega)
end Group
