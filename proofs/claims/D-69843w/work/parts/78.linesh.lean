/-! ===== LAYER 2: findLines, the house ===== -/
section LinesH
variable {wh wm : rhW} {L T R B : Int → Int} {np : Int}
theorem c_topOf (hh : rh_hs wh) {x s : Int} {g : Int → Int} (hx : rh_bl wh 0 x 0) (hy : rh_bl wh 1 (x + 9) 0) (M : rhM) (hP : PcH M x np L T R B) (hnp : 0 ≤ np ∧ np ≤ 300) (hg : ∀ i, 0 ≤ i → i < np → M (x + 9 + 25) i = g i) :
    eC wh YX30_topOf 1 [(2, x + 9), (2, x), (0, s)] M (lst T g s 96 np.toNat) M := by
  refine eC.of1 (rC1.of (by decide) (LE0 rfl) ?_)
  refine rh1.of (rX30_topOf_0 hh _ _ _ _ hy hx ?_)
  have key : ∀ (vq : Nat) (k : Nat) (v : Int), (np - k).toNat = vq → ((k : Int) ≤ np) → (v = lst T g s 96 k) → rh1 wh YX30_topOf 1 6 [(0, 2, x + 9), (1, 2, x), (2, 0, s), (3, 0, v), (4, 0, (k : Int))] [] M (fun r M' => r = lst T g s 96 np.toNat ∧ M' = M) := by
    intro vq
    induction vq using Nat.strongRecOn with
    | ind vq ih =>
      intro k v hvq k1 hv
      refine rh1.of (rX30_topOf_6 hh _ _ _ _ _ _ hy hx ?_)
      rw [hP.1]
      refine ⟨fun c => ⟨⟨by omega, by omega⟩, fun _ => ⟨by omega, by omega⟩, fun w ew => ⟨⟨by omega, by omega⟩, ?_⟩⟩, fun c => ⟨by rw [hv, show np.toNat = k by omega], rfl⟩⟩
      rw [show (k : Int) + 1 = ((k + 1 : Nat) : Int) by omega]
      refine ih _ (by omega) (k + 1) w rfl (by omega) ?_
      rw [ew, hg k (by omega) c, (hP.2 k (by omega) c).2.1, hv, rh_ifd, rh_ifd]
      simp only [lst]
      by_cases q : g k = s
      · rw [if_pos q]
        by_cases d : T k < lst T g s 96 k
        · rw [if_pos d, if_pos ⟨q, d⟩]
        · rw [if_neg d, if_neg (fun z => d z.2)]
      · rw [if_neg q, if_neg (fun z => q z.1)]
  exact key _ 0 96 rfl hnp.1 rfl
theorem c_leftOf (hh : rh_hs wh) {x s : Int} {g : Int → Int} (hx : rh_bl wh 0 x 0) (hy : rh_bl wh 1 (x + 9) 0) (M : rhM) (hP : PcH M x np L T R B) (hnp : 0 ≤ np ∧ np ≤ 300) (hg : ∀ i, 0 ≤ i → i < np → M (x + 9 + 25) i = g i) :
    eC wh YX30_leftOf 1 [(2, x + 9), (2, x), (0, s)] M (lst L g s 128 np.toNat) M := by
  refine eC.of1 (rC1.of (by decide) (LE0 rfl) ?_)
  refine rh1.of (rX30_leftOf_0 hh _ _ _ _ hy hx ?_)
  have key : ∀ (vq : Nat) (k : Nat) (v : Int), (np - k).toNat = vq → ((k : Int) ≤ np) → (v = lst L g s 128 k) → rh1 wh YX30_leftOf 1 7 [(0, 2, x + 9), (1, 2, x), (2, 0, s), (3, 0, v), (4, 0, (k : Int))] [] M (fun r M' => r = lst L g s 128 np.toNat ∧ M' = M) := by
    intro vq
    induction vq using Nat.strongRecOn with
    | ind vq ih =>
      intro k v hvq k1 hv
      refine rh1.of (rX30_leftOf_7 hh _ _ _ _ _ _ hy hx ?_)
      rw [hP.1]
      refine ⟨fun c => ⟨⟨by omega, by omega⟩, fun _ => ⟨by omega, by omega⟩, fun w ew => ⟨⟨by omega, by omega⟩, ?_⟩⟩, fun c => ⟨by rw [hv, show np.toNat = k by omega], rfl⟩⟩
      rw [show (k : Int) + 1 = ((k + 1 : Nat) : Int) by omega]
      refine ih _ (by omega) (k + 1) w rfl (by omega) ?_
      rw [ew, hg k (by omega) c, (hP.2 k (by omega) c).1, hv, rh_ifd, rh_ifd]
      simp only [lst]
      by_cases q : g k = s
      · rw [if_pos q]
        by_cases d : L k < lst L g s 128 k
        · rw [if_pos d, if_pos ⟨q, d⟩]
        · rw [if_neg d, if_neg (fun z => d z.2)]
      · rw [if_neg q, if_neg (fun z => q z.1)]
  exact key _ 0 128 rfl hnp.1 rfl
theorem c_nextGroup (hh : rh_hs wh) {x : Int} {g : Int → Int} (hx : rh_bl wh 0 x 0) (hy : rh_bl wh 1 (x + 9) 0) (M : rhM) (hP : PcH M x np L T R B) (hnp : 0 ≤ np ∧ np ≤ 300) (hg : ∀ i, 0 ≤ i → i < np → M (x + 9 + 25) i = g i) :
    eC wh YX30_nextGroup 2 [(2, x + 9), (2, x)] M (nxg T L np g) M := by
  refine eC.of1 (rC1.of (by decide) (LE0 rfl) ?_)
  refine rh1.of (rX30_nextGroup_0 hh _ _ _ hy hx ?_)
  unfold nxg
  generalize hT : (fun i => lst T g i 96 np.toNat) = TT
  generalize hL : (fun i => lst L g i 128 np.toNat) = LL
  have eT : ∀ i, lst T g i 96 np.toNat = TT i := fun i => by rw [← hT]
  have eL : ∀ i, lst L g i 128 np.toNat = LL i := fun i => by rw [← hL]
  clear hT hL
  replace eT := Hid.mk eT
  replace eL := Hid.mk eL
  have key : ∀ (vq : Nat) (k : Nat) (v t l : Int), (np - k).toNat = vq → ((k : Int) ≤ np) → (v = nxt (fun i => g i = i) TT LL k) → ((v ≠ -1 → t = TT v ∧ l = LL v)) → rh1 wh YX30_nextGroup 2 10 [(0, 2, x + 9), (1, 2, x), (2, 0, v), (3, 0, t), (4, 0, l), (5, 0, (k : Int))] [] M (fun r M' => r = nxt (fun i => g i = i) TT LL np.toNat ∧ M' = M) := by
    intro vq
    induction vq using Nat.strongRecOn with
    | ind vq ih =>
      intro k v t l hvq k1 hv ht
      have eK : (k : Int) + 1 = ((k + 1 : Nat) : Int) := (by omega)
      replace ht := Hid.mk ht
      refine rh1.of (rX30_nextGroup_10 hh _ _ _ _ _ _ _ hy hx ?_)
      rw [hP.1]
      refine ⟨fun c => ⟨⟨by omega, by omega⟩, fun d => ?_, fun d => ⟨⟨by omega, by omega⟩, ?_⟩⟩, fun c => ⟨by rw [hv, show np.toNat = k by omega], rfl⟩⟩
      · rw [hg k (by omega) c] at d
        refine rh1.s (vX30_nextGroup_35 hy (c_topOf hh hx hy M hP hnp hg) (LE0 rfl)) ?_
        refine rh1.of (rX30_nextGroup_38 hh _ _ _ _ _ _ _ _ hy hx ?_)
        refine rh1.s (vX30_nextGroup_44 hy (c_leftOf hh hx hy M hP hnp hg) (LE0 rfl)) ?_
        refine rh1.of (rX30_nextGroup_47 hh _ _ _ _ _ _ _ _ _ hy hx ?_)
        refine ⟨⟨by omega, by omega⟩, ?_⟩
        rw [eT.out, eL.out, eK]
        by_cases z : v = -1
        · have e1 : nxt (fun i => g i = i) TT LL (k + 1) = k := by
            simp only [nxt]; rw [rh_if_t ⟨d, .inl (by rw [← hv]; exact z)⟩]
          rw [rh_if_f (fun y => y.1 z), rh_if_f (fun y => y.1 z), rh_if_f (fun y => y.1 z)]
          exact ih _ (by omega) (k + 1) _ _ _ rfl (by omega) e1.symm (fun _ => ⟨rfl, rfl⟩)
        · obtain ⟨h1, h2⟩ := ht.out z
          rw [h1, h2]
          by_cases y : TT v ≤ TT k
          · have zy : v ≠ -1 ∧ TT v ≤ TT k := ⟨z, y⟩
            simp only [rh_if_t zy]
            by_cases u : TT k = TT v ∧ LL k < LL v
            · have e1 : nxt (fun i => g i = i) TT LL (k + 1) = k := by
                simp only [nxt]; rw [rh_if_t ⟨d, .inr (.inr (by rw [← hv]; exact u))⟩]
              simp only [rh_if_t u]
              exact ih _ (by omega) (k + 1) _ _ _ rfl (by omega) e1.symm (fun _ => ⟨rfl, rfl⟩)
            · have e1 : nxt (fun i => g i = i) TT LL (k + 1) = v := by
                simp only [nxt]
                rw [rh_if_f]
                · exact hv.symm
                · rw [← hv]
                  rintro ⟨-, w | w | w⟩
                  · exact z w
                  · omega
                  · exact u w
              simp only [rh_if_f u]
              exact ih _ (by omega) (k + 1) _ _ _ rfl (by omega) e1.symm (fun _ => ⟨rfl, rfl⟩)
          · have e1 : nxt (fun i => g i = i) TT LL (k + 1) = k := by
              simp only [nxt]; rw [rh_if_t ⟨d, .inr (.inl (by rw [← hv]; omega))⟩]
            rw [rh_if_f (fun w => y w.2), rh_if_f (fun w => y w.2), rh_if_f (fun w => y w.2)]
            exact ih _ (by omega) (k + 1) _ _ _ rfl (by omega) e1.symm (fun _ => ⟨rfl, rfl⟩)
      · rw [hg k (by omega) c] at d
        rw [eK]
        refine ih _ (by omega) (k + 1) v t l rfl (by omega) ?_ ht.out
        simp only [nxt]; rw [rh_if_f (fun z => d z.1)]; exact hv
  exact key _ 0 (-1) 0 0 rfl hnp.1 rfl (fun z => absurd rfl z)
theorem c_isLeftOf (hh : rh_hs wh) {x i j : Int} (hx : rh_bl wh 0 x 0) (M : rhM) (hP : PcH M x np L T R B) (hnp : 0 ≤ np ∧ np ≤ 300) (hi : 0 ≤ i ∧ i < np) (hj : 0 ≤ j ∧ j < np) :
    eC wh YX30_isLeftOf 0 [(2, x), (0, i), (0, j)] M (rh_if (lef L T i j) 1 0) M := by
  refine eC.of1 (rC1.of (by decide) (LE0 rfl) ?_)
  refine rh1.of (rX30_isLeftOf_0 hh _ _ _ _ hx ?_)
  obtain ⟨i1, i2, -, -⟩ := hP.2 i hi.1 hi.2
  obtain ⟨j1, j2, -, -⟩ := hP.2 j hj.1 hj.2
  rw [i1, i2, j1, j2]
  unfold lef
  refine ⟨⟨by omega, by omega⟩, ⟨by omega, by omega⟩, fun c => ⟨⟨by omega, by omega⟩, ⟨by omega, by omega⟩, rh_if_cg ?_, rfl⟩, fun c => ⟨⟨by omega, by omega⟩, ⟨by omega, by omega⟩, fun d => ⟨⟨by omega, by omega⟩, ⟨by omega, by omega⟩, rh_if_cg ?_, rfl⟩, fun d => ⟨rh_if_cg ?_, rfl⟩⟩⟩
  · omega
  · omega
  · omega
/-- one piece is put into its line -/
theorem h_ins (hh : rh_hs wh) {x b s fr i : Int} {a : Int → Int} {c : Nat} (hx : rh_bl wh 0 x 0) (hy : rh_bl wh 1 (x + 9) 0) (hx2 : 100 ≤ x) (M : rhM) (hP : PcH M x np L T R B) (hnp : 0 ≤ np ∧ np ≤ 300) (hfr : 0 ≤ fr) (hc : fr + c < 300) (hi : 0 ≤ i ∧ i < np) (ha : ∀ j : Int, 0 ≤ j → j < c → M (x + 9 + 15) (fr + j) = a j) (hr : ∀ j : Int, 0 ≤ j → j < c → 0 ≤ a j ∧ a j < np) {P : Int → rhM → Prop}
    (K : ∀ M', frx (fun u j => u = x + 9 + 15 ∧ fr ≤ j ∧ j ≤ fr + c) M M' → (∀ j : Int, 0 ≤ j → j < ((c + 1 : Nat) : Int) → M' (x + 9 + 15) (fr + j) = inz (lef L T) a i c j) → rh1 wh YX30_findLines 3 94 [(0, 2, x + 9), (1, 2, x), (2, 0, b), (3, 0, s), (4, 0, fr), (5, 0, fr + c + 1), (6, 0, i + 1)] [] M' P) :
    rh1 wh YX30_findLines 3 149 [(0, 2, x + 9), (1, 2, x), (2, 0, b), (3, 0, s), (4, 0, fr), (5, 0, fr + c + 1), (6, 0, i), (7, 0, fr + c)] [] M P := by
  replace ha := Hid.mk ha
  replace hr := Hid.mk hr
  replace K := Hid.mk K
  have key : ∀ (vq : Nat) (t : Nat) (M2 : rhM), ((t : Int)).toNat = vq → (t ≤ c) → (frx (fun u j => u = x + 9 + 15 ∧ fr ≤ j ∧ j ≤ fr + c) M M2) → ((∀ j : Int, 0 ≤ j → j < t → M2 (x + 9 + 15) (fr + j) = a j)) → ((∀ j : Int, t < j → j ≤ c → M2 (x + 9 + 15) (fr + j) = a (j - 1))) → (ips (lef L T) a i c = ips (lef L T) a i t) → rh1 wh YX30_findLines 3 149 [(0, 2, x + 9), (1, 2, x), (2, 0, b), (3, 0, s), (4, 0, fr), (5, 0, fr + c + 1), (6, 0, i), (7, 0, fr + t)] [] M2 P := by
    intro vq
    induction vq using Nat.strongRecOn with
    | ind vq ih =>
      intro t M2 hvq t1 f h1 h2 h3
      have hP2 : PcH M2 x np L T R B := hP.fx (f x 6 (by omega)) (fun a a0 a1 => f.cell (fun j => (by omega)))
      replace h1 := Hid.mk h1
      replace h2 := Hid.mk h2
      have fin : ips (lef L T) a i t = t → rh1 wh YX30_findLines 3 94 [(0, 2, x + 9), (1, 2, x), (2, 0, b), (3, 0, s), (4, 0, fr), (5, 0, fr + c + 1), (6, 0, i + 1)] [] (rh_set M2 (x + 9 + 15) (fr + t) i) P := fun e => by
        refine K.out _ (f.st (by omega)) (fun j j0 j1 => ?_)
        unfold inz
        rw [h3, e]
        by_cases q : j < t
        · rw [if_pos q, rh_set_j (by omega)]; exact h1.out j j0 q
        · rw [if_neg q]
          by_cases r : j = t
          · rw [if_pos r, r, rh_set_s]
          · rw [if_neg r, rh_set_j (by omega)]; exact h2.out j (by omega) (by omega)
      replace fin := Hid.mk fin
      refine rh1.of (rX30_findLines_149 hh _ _ _ _ _ _ _ _ _ hy hx ?_)
      refine ⟨fun z => ⟨⟨by omega, by omega⟩, ?_⟩, fun z => ⟨⟨by omega, by omega⟩, ⟨by omega, by omega⟩, fin.out (by rw [show t = 0 by omega]; rfl)⟩⟩
      obtain ⟨t', et⟩ : ∃ t' : Nat, t = t' + 1 := ⟨t - 1, (by omega)⟩
      have ea : M2 (x + 9 + 15) (fr + (t : Int) - 1) = a t' := by
        rw [show fr + (t : Int) - 1 = fr + (t' : Int) by omega]; exact h1.out t' (by omega) (by omega)
      have hr2 := hr.out t' (by omega) (by omega)
      rw [ea]
      refine rh1.s (vX30_findLines_168 (c_isLeftOf hh hx M2 hP2 hnp hi hr2) (LE0 rfl)) ?_
      refine rh1.of (rX30_findLines_171 hh _ _ _ _ _ _ _ _ _ _ hy hx ?_)
      rw [if1_ne, ea]
      refine ⟨fun y => ⟨⟨by omega, by omega⟩, ⟨by omega, by omega⟩, ⟨by omega, by omega⟩, ?_⟩, fun y => ⟨⟨by omega, by omega⟩, ⟨by omega, by omega⟩, fin.out (by rw [et]; simp only [ips]; rw [rh_if_f y])⟩⟩
      rw [show fr + (t : Int) + -1 = fr + (t' : Int) by omega]
      refine ih _ (by omega) t' _ rfl (by omega) (f.st (by omega)) (fun j j0 j1 => ?_) (fun j j0 j1 => ?_) ?_
      · rw [rh_set_j (by omega)]; exact h1.out j j0 (by omega)
      · by_cases q : j = t
        · rw [q, rh_set_s, show (t : Int) - 1 = t' by omega]
        · rw [rh_set_j (by omega)]; exact h2.out j (by omega) j1
      · rw [h3, et]; simp only [ips]; rw [rh_if_t y]
  exact key _ c M rfl (Nat.le_refl _) frx.rf ha.out (fun j j0 j1 => by omega) rfl
/-- the members of a line -/
theorem h_mem (hh : rh_hs wh) {x b s fr l : Int} {g : Int → Int} (hx : rh_bl wh 0 x 0) (hy : rh_bl wh 1 (x + 9) 0) (hx2 : 100 ≤ x) (M : rhM) (hP : PcH M x np L T R B) (hnp : 0 ≤ np ∧ np ≤ 300) (hg : ∀ i, 0 ≤ i → i < np → M (x + 9 + 25) i = g i) (hl : M (x + 9) 10 = l) (hl0 : 0 ≤ l ∧ l < 60) (hfr : 0 ≤ fr) (hc : fr + nct g s np.toNat ≤ 300) (h11 : M (x + 9 + 11) l = 0) {P : Int → rhM → Prop}
    (K : ∀ M', frx (fun u j => (u = x + 9 + 15 ∧ fr ≤ j) ∨ (u = x + 9 + 11 ∧ j = l)) M M' → M' (x + 9 + 11) l = gst B g s 0 np.toNat → (∀ j : Int, 0 ≤ j → j < nct g s np.toNat → M' (x + 9 + 15) (fr + j) = mem L T g s np.toNat j) → rh1 wh YX30_findLines 3 214 [(0, 2, x + 9), (1, 2, x), (2, 0, b), (3, 0, s), (5, 0, fr + nct g s np.toNat), (6, 0, 0)] [] M' P) :
    rh1 wh YX30_findLines 3 94 [(0, 2, x + 9), (1, 2, x), (2, 0, b), (3, 0, s), (4, 0, fr), (5, 0, fr), (6, 0, 0)] [] M P := by
  have mono : ∀ k : Nat, (k : Int) ≤ np → nct g s k ≤ nct g s np.toNat := by
    intro k hk
    have : ∀ d : Nat, nct g s k ≤ nct g s (k + d) := by
      intro d
      induction d with
      | zero => exact Int.le_refl _
      | succ d ihd => rw [← Nat.add_assoc]; simp only [nct]; split <;> omega
    have := this (np.toNat - k)
    rwa [show k + (np.toNat - k) = np.toNat by omega] at this
  replace mono := Hid.mk mono
  replace K := Hid.mk K
  replace hg := Hid.mk hg
  have key : ∀ (vq : Nat) (k : Nat) (M2 : rhM), (np - k).toNat = vq → ((k : Int) ≤ np) → (frx (fun u j => (u = x + 9 + 15 ∧ fr ≤ j) ∨ (u = x + 9 + 11 ∧ j = l)) M M2) → (M2 (x + 9 + 11) l = gst B g s 0 k) → ((∀ j : Int, 0 ≤ j → j < nct g s k → M2 (x + 9 + 15) (fr + j) = mem L T g s k j)) → rh1 wh YX30_findLines 3 94 [(0, 2, x + 9), (1, 2, x), (2, 0, b), (3, 0, s), (4, 0, fr), (5, 0, fr + nct g s k), (6, 0, (k : Int))] [] M2 P := by
    intro vq
    induction vq using Nat.strongRecOn with
    | ind vq ih =>
      intro k M2 hvq k1 f h1 h2
      have eK : (k : Int) + 1 = ((k + 1 : Nat) : Int) := (by omega)
      have hP2 : PcH M2 x np L T R B := hP.fx (f x 6 (by omega)) (fun a a0 a1 => f.cell (fun j => (by omega)))
      have l2 : M2 (x + 9) 10 = l := by rw [f _ _ (by omega), hl]
      have nb := nct_b g s k
      have nm := mono.out k k1
      refine rh1.of (rX30_findLines_94 hh _ _ _ _ _ _ _ _ hy hx ?_)
      rw [hP2.1, l2]
      refine ⟨fun c => ⟨⟨by omega, by omega⟩, fun d => ?_, fun d => ⟨⟨by omega, by omega⟩, ?_⟩⟩, fun c => ?_⟩
      · rw [f (x + 9 + 25) k (by omega), hg.out k (by omega) c] at d
        have nm2 := mono.out (k + 1) (by omega)
        have e1 : nct g s (k + 1) = nct g s k + 1 := by simp only [nct]; rw [if_pos d]
        rw [(hP2.2 k (by omega) c).2.2.2, h1]
        refine ⟨hl0, ⟨by omega, by omega⟩, fun v ev => ⟨hl0, ⟨by omega, by omega⟩, ?_⟩⟩
        have cc : fr + nct g s k = fr + ((nct g s k).toNat : Int) := (by omega)
        rw [cc]
        have hP3 : PcH (rh_set M2 (x + 9 + 11) l v) x np L T R B := hP2.fx (rh_set_a (by omega)) (fun a a0 a1 => rh_set_n (by omega))
        refine h_ins hh hx hy hx2 _ hP3 hnp hfr (a := mem L T g s k) (by omega) ⟨(by omega), c⟩ (fun j j0 j1 => ?_) (fun j j0 j1 => ?_) (fun M3 f3 h3 => ?_)
        · rw [rh_set_a (by omega)]; exact h2 j j0 (by omega)
        · have := mem_b (L := L) (T := T) (g := g) (s := s) k j j0 (by omega)
          exact ⟨by omega, by omega⟩
        · rw [eK, show fr + ((nct g s k).toNat : Int) + 1 = fr + nct g s (k + 1) by omega]
          refine ih _ (by omega) (k + 1) M3 rfl (by omega) ?_ ?_ (fun j j0 j1 => ?_)
          · exact (f.st (.inr ⟨rfl, rfl⟩)).tr (f3.w (fun u j hu => .inl ⟨hu.1, hu.2.1⟩))
          · rw [f3 _ _ (by omega), rh_set_s, ev, rh_ifd]
            simp only [gst]
            by_cases q : gst B g s 0 k < B k
            · rw [if_pos q, if_pos ⟨d, q⟩]
            · rw [if_neg q, if_neg (fun z => q z.2)]
          · rw [h3 j j0 (by omega)]
            simp only [mem]
            rw [rh_if_t d]
      · rw [f (x + 9 + 25) k (by omega), hg.out k (by omega) c] at d
        have e1 : nct g s (k + 1) = nct g s k := by simp only [nct]; rw [if_neg d]; omega
        rw [eK, ← e1]
        refine ih _ (by omega) (k + 1) M2 rfl (by omega) f ?_ (fun j j0 j1 => ?_)
        · simp only [gst]; rw [if_neg (fun z => d z.1)]; exact h1
        · simp only [mem]; rw [rh_if_f d]; exact h2 j j0 (by omega)
      · have ek : k = np.toNat := (by omega)
        rw [ek] at h1 h2 ⊢
        exact K.out M2 f h1 h2
  have h0 := key _ 0 M rfl hnp.1 frx.rf (by rw [h11]; rfl) (fun j j0 j1 => by simp only [nct] at j1; omega)
  simp only [nct, Int.add_zero] at h0
  exact h0
/-- the line is counted, its pieces are taken out -/
theorem h_rm (hh : rh_hs wh) {x b s n l : Int} {g : Int → Int} (hx : rh_bl wh 0 x 0) (hy : rh_bl wh 1 (x + 9) 0) (hx2 : 100 ≤ x) (M : rhM) (hP : PcH M x np L T R B) (hnp : 0 ≤ np ∧ np ≤ 300) (hg : ∀ i, 0 ≤ i → i < np → M (x + 9 + 25) i = g i) (hl : M (x + 9) 10 = l) (hl0 : 0 ≤ l ∧ l < 60) (hb : 0 ≤ b ∧ b < 20) (h6 : 0 ≤ M (x + 9 + 6) b ∧ M (x + 9 + 6) b < 1000) {P : Int → rhM → Prop}
    (K : ∀ M', frx (fun u j => u = x + 9 + 25 ∨ (u = x + 9 ∧ j = 10) ∨ (u = x + 9 + 13 ∧ j = l + 1) ∨ (u = x + 9 + 6 ∧ j = b)) M M' → M' (x + 9) 10 = l + 1 → M' (x + 9 + 13) (l + 1) = n → M' (x + 9 + 6) b = M (x + 9 + 6) b + 1 → (∀ i, 0 ≤ i → i < np → M' (x + 9 + 25) i = if g i = s then -1 else g i) → rh1 wh YX30_findLines 3 291 [(0, 2, x + 9), (1, 2, x), (2, 0, b)] [(2, x), (2, x + 9)] M' P) :
    rh1 wh YX30_findLines 3 214 [(0, 2, x + 9), (1, 2, x), (2, 0, b), (3, 0, s), (5, 0, n), (6, 0, 0)] [] M P := by
  replace K := Hid.mk K
  replace hg := Hid.mk hg
  have key : ∀ (vq : Nat) (k : Int) (M2 : rhM), (np - k).toNat = vq → (0 ≤ k) → (k ≤ np) → (frx (fun u j => u = x + 9 + 25) M M2) → ((∀ i, 0 ≤ i → i < k → M2 (x + 9 + 25) i = if g i = s then -1 else g i)) → ((∀ i, k ≤ i → i < np → M2 (x + 9 + 25) i = g i)) → rh1 wh YX30_findLines 3 214 [(0, 2, x + 9), (1, 2, x), (2, 0, b), (3, 0, s), (5, 0, n), (6, 0, k)] [] M2 P := by
    intro vq
    induction vq using Nat.strongRecOn with
    | ind vq ih =>
      intro k M2 hvq k0 k1 f h1 h2
      have hP2 : PcH M2 x np L T R B := hP.fx (f x 6 (by omega)) (fun a a0 a1 => f.cell (fun j => (by omega)))
      have l2 : M2 (x + 9) 10 = l := by rw [f _ _ (by omega), hl]
      refine rh1.of (rX30_findLines_214 hh _ _ _ _ _ _ _ hy hx ?_)
      rw [hP2.1, l2]
      refine ⟨fun c => ⟨⟨by omega, by omega⟩, fun _ => ⟨by omega, by omega⟩, fun v ev => ⟨⟨by omega, by omega⟩, ⟨by omega, by omega⟩, ih _ (by omega) (k + 1) _ rfl (by omega) (by omega) (f.st rfl) (fun i i0 i1 => ?_) (fun i i0 i1 => ?_)⟩⟩, fun c => ⟨⟨by omega, by omega⟩, fun Ma ea => ?_⟩⟩
      · by_cases q : i = k
        · rw [q, rh_set_s, ev, h2 k (by omega) c, rh_ifd]
        · rw [rh_set_j q]; exact h1 i i0 (by omega)
      · rw [rh_set_j (by omega)]; exact h2 i (by omega) i1
      · have a1 : Ma (x + 9) 10 = l + 1 := by rw [ea, rh_set_s]
        rw [a1]
        refine ⟨⟨by omega, by omega⟩, fun Mb eb => ?_⟩
        have b6 : Mb (x + 9 + 6) b = M (x + 9 + 6) b := by rw [eb, rh_set_a (by omega), ea, rh_set_a (by omega), f _ _ (by omega)]
        rw [b6]
        refine ⟨hb, hb, ⟨by omega, by omega⟩, K.out _ ?_ ?_ ?_ (rh_set_s _ _ _ _) (fun i i0 i1 => ?_)⟩
        · rw [eb, ea]
          exact (((f.w (fun u j hu => .inl hu)).st (by omega)).st (by omega)).st (by omega)
        · rw [rh_set_a (by omega), eb, rh_set_a (by omega), a1]
        · rw [rh_set_a (by omega), eb, rh_set_s]
        · rw [rh_set_a (by omega), eb, rh_set_a (by omega), ea, rh_set_a (by omega)]; exact h1 i i0 (by omega)
  exact key _ 0 M rfl (by omega) hnp.1 frx.rf (fun i i0 i1 => by omega) (fun i i0 i1 => hg.out i i0 i1)
/-- what is known of a line -/
def LnD (L T B : Int → Int) (np : Int) (M : rhM) (y l b : Int) (g : Int → Int) (s : Int) : Prop := M (y + 9) l = b ∧ M (y + 10) l = lst T g s 96 np.toNat ∧ M (y + 11) l = gst B g s 0 np.toNat ∧ M (y + 12) l = lst L g s 128 np.toNat ∧ M (y + 13) (l + 1) = M (y + 13) l + nct g s np.toNat ∧ (0 ≤ M (y + 13) l ∧ M (y + 13) (l + 1) ≤ 300) ∧ ∀ j : Int, 0 ≤ j → j < nct g s np.toNat → M (y + 15) (M (y + 13) l + j) = mem L T g s np.toNat j
theorem LnD.fx {M M' : rhM} {y l b s : Int} {g : Int → Int} (h : LnD L T B np M y l b g s) (h1 : M' (y + 9) l = M (y + 9) l) (h2 : M' (y + 10) l = M (y + 10) l) (h3 : M' (y + 11) l = M (y + 11) l) (h4 : M' (y + 12) l = M (y + 12) l) (h5 : M' (y + 13) l = M (y + 13) l) (h6 : M' (y + 13) (l + 1) = M (y + 13) (l + 1)) (h7 : ∀ j, j < M (y + 13) (l + 1) → M' (y + 15) j = M (y + 15) j) : LnD L T B np M' y l b g s := by
  obtain ⟨a1, a2, a3, a4, a5, a6, a7⟩ := h
  refine ⟨h1.trans a1, h2.trans a2, h3.trans a3, h4.trans a4, by rw [h6, h5]; exact a5, by rw [h5, h6]; exact a6, fun j j0 j1 => ?_⟩
  rw [h5, h7 _ (by omega)]
  exact a7 j j0 j1
/-- what findLines touches -/
abbrev Fln (x l fr b c j : Int) : Prop := (c = x + 9 ∧ j = 10) ∨ ((c = x + 9 + 9 ∨ c = x + 9 + 10 ∨ c = x + 9 + 11 ∨ c = x + 9 + 12) ∧ l ≤ j) ∨ (c = x + 9 + 13 ∧ l < j) ∨ (c = x + 9 + 15 ∧ fr ≤ j) ∨ c = x + 9 + 25 ∨ (c = x + 9 + 6 ∧ j = b)
theorem nct_not {g blk : Int → Int} {b : Int} : ∀ k : Nat, (∀ i : Int, 0 ≤ i → i < k → (g i = -1 ↔ blk i ≠ b)) → nct g (-1) k + nct blk b k = k
  | 0 => fun _ => rfl
  | k + 1 => fun h => by
    have e := nct_not k (fun i a b => h i a (by omega))
    have hk := h k (by omega) (by omega)
    simp only [nct]
    by_cases q : blk k = b
    · rw [if_pos q, if_neg (fun z => hk.mp z q)]; omega
    · rw [if_neg q, if_pos (hk.mpr q)]; omega
/-- the lines of a block: t of them -/
def LnB (L T B : Int → Int) (np : Int) (M : rhM) (y l b : Int) (g : Int → Int) (t : Nat) : Prop := (∀ u : Nat, u < t → nxg T L np (gq T L np g u) ≠ -1 ∧ LnD L T B np M y (l + u) b (gq T L np g u) (nxg T L np (gq T L np g u))) ∧ (l + t = 60 ∨ nxg T L np (gq T L np g t) = -1)
theorem c_findLines (hh : rh_hs wh) {x b : Int} (hx : rh_bl wh 0 x 0) (hy : rh_bl wh 1 (x + 9) 0) (hx2 : 100 ≤ x) (M : rhM) (hP : PcH M x np L T R B) (hnp : 0 ≤ np ∧ np ≤ 300) (hpb : Pcb L T R B np) (hl : 0 ≤ M (x + 9) 10 ∧ M (x + 9) 10 ≤ 60) (hb : 0 ≤ b ∧ b < 20) (h6 : M (x + 9 + 6) b = 0) (hf : 0 ≤ M (x + 9 + 13) (M (x + 9) 10)) (hE : M (x + 9 + 13) (M (x + 9) 10) + nct (M (x + 9 + 24)) b np.toNat ≤ 300) (hInj : ∀ q q', 0 ≤ q → q < q' → q' < M (x + 9 + 13) (M (x + 9) 10) → M (x + 9 + 15) q ≠ M (x + 9 + 15) q') (hQ : ∀ q, 0 ≤ q → q < M (x + 9 + 13) (M (x + 9) 10) → 0 ≤ M (x + 9 + 15) q ∧ M (x + 9 + 15) q < np ∧ M (x + 9 + 24) (M (x + 9 + 15) q) ≠ b) :
    rC1 wh YX30_findLines 3 [(2, x + 9), (2, x), (0, b)] M (fun r M' => frx (Fln x (M (x + 9) 10) (M (x + 9 + 13) (M (x + 9) 10)) b) M M' ∧ ∃ (g : Int → Int) (t : Nat), Grp T B (M (x + 9 + 24)) b np g ∧ M' (x + 9) 10 = M (x + 9) 10 + t ∧ M' (x + 9) 10 ≤ 60 ∧ LnB L T B np M' (x + 9) (M (x + 9) 10) b g t ∧ M (x + 9 + 13) (M (x + 9) 10) ≤ M' (x + 9 + 13) (M' (x + 9) 10) ∧ M' (x + 9 + 13) (M' (x + 9) 10) ≤ M (x + 9 + 13) (M (x + 9) 10) + nct (M (x + 9 + 24)) b np.toNat ∧ M' (x + 9 + 6) b = t ∧ (∀ q q', 0 ≤ q → q < q' → q' < M' (x + 9 + 13) (M' (x + 9) 10) → M' (x + 9 + 15) q ≠ M' (x + 9 + 15) q') ∧ (∀ q, M (x + 9 + 13) (M (x + 9) 10) ≤ q → q < M' (x + 9 + 13) (M' (x + 9) 10) → 0 ≤ M' (x + 9 + 15) q ∧ M' (x + 9 + 15) q < np ∧ M (x + 9 + 24) (M' (x + 9 + 15) q) = b)) := by
  refine rC1.of (by decide) (LE0 rfl) ?_
  refine rh1.of (rX30_findLines_0 hh _ _ _ _ hy hx ?_)
  obtain ⟨r, M1, E1, f1, G⟩ := c_group hh (b := b) hx hy hx2 M hP hnp hpb
  refine rh1.s (vX30_findLines_3 hy E1 (LE0 rfl)) ?_
  refine rh1.of (rX30_findLines_6 hh _ _ _ _ hy hx ?_)
  generalize hgg : M1 (x + 9 + 25) = g at G
  have hP1 : PcH M1 x np L T R B := hP.fx (f1 x 6 (by omega)) (fun a a0 a1 => f1.cell (fun j => (by omega)))
  have gb : ∀ i, 0 ≤ i → i < np → -1 ≤ g i ∧ g i ≤ i := fun i i0 i1 => by
    by_cases q : g i = -1
    · omega
    · have := (G.1.1 i i0 i1).2 q; omega
  have cnt := nct_not np.toNat (fun i i0 i1 => (G.1.1 i i0 (by omega)).1)
  refine rh1.s (vX30_findLines_8 hy (c_nextGroup hh (g := g) hx hy M1 hP1 hnp (fun i _ _ => by rw [hgg])) (LE0 rfl)) ?_
  refine rh1.of (rX30_findLines_11 hh _ _ _ _ _ hy hx ?_)
  have ha10 := rh_emb_ok (d := 10) (t' := 6) (m' := 60) hy (by decide +kernel)
  have ha12 := rh_emb_ok (d := 12) (t' := 6) (m' := 60) hy (by decide +kernel)
  generalize hl9 : M (x + 9) 10 = l at *
  generalize hf9 : M (x + 9 + 13) l = fr at *
  have f1' : frx (Fln x l fr b) M M1 := f1.w (fun a j h => by unfold Fln; omega)
  replace G := Hid.mk G
  replace gb := Hid.mk gb
  have key : ∀ (vq : Nat) (u : Nat) (M2 : rhM), (60 - (u : Int)).toNat = vq → (frx (Fln x l fr b) M M2) → (M2 (x + 9) 10 = l + u) → (l + u ≤ 60) → ((∀ i, 0 ≤ i → i < np → M2 (x + 9 + 25) i = gq T L np g u i)) → (M2 (x + 9 + 13) (l + u) + np - nct (gq T L np g u) (-1) np.toNat = fr + np - nct g (-1) np.toNat) → (fr ≤ M2 (x + 9 + 13) (l + u)) → (M2 (x + 9 + 6) b = u) → ((∀ v : Nat, v < u → nxg T L np (gq T L np g v) ≠ -1 ∧ LnD L T B np M2 (x + 9) (l + v) b (gq T L np g v) (nxg T L np (gq T L np g v)) ∧ M2 (x + 9 + 13) (l + v + 1) ≤ M2 (x + 9 + 13) (l + u))) → ((∀ q q', 0 ≤ q → q < q' → q' < M2 (x + 9 + 13) (l + u) → M2 (x + 9 + 15) q ≠ M2 (x + 9 + 15) q')) → ((∀ q, 0 ≤ q → q < M2 (x + 9 + 13) (l + u) → 0 ≤ M2 (x + 9 + 15) q ∧ M2 (x + 9 + 15) q < np ∧ gq T L np g u (M2 (x + 9 + 15) q) = -1 ∧ (fr ≤ q → M (x + 9 + 24) (M2 (x + 9 + 15) q) = b))) → rh1 wh YX30_findLines 3 12 [(0, 2, x + 9), (1, 2, x), (2, 0, b), (3, 0, nxg T L np (gq T L np g u))] [] M2 (fun r M' => frx (Fln x l fr b) M M' ∧ ∃ (g : Int → Int) (t : Nat), Grp T B (M (x + 9 + 24)) b np g ∧ M' (x + 9) 10 = l + t ∧ M' (x + 9) 10 ≤ 60 ∧ LnB L T B np M' (x + 9) l b g t ∧ fr ≤ M' (x + 9 + 13) (M' (x + 9) 10) ∧ M' (x + 9 + 13) (M' (x + 9) 10) ≤ fr + nct (M (x + 9 + 24)) b np.toNat ∧ M' (x + 9 + 6) b = t ∧ (∀ q q', 0 ≤ q → q < q' → q' < M' (x + 9 + 13) (M' (x + 9) 10) → M' (x + 9 + 15) q ≠ M' (x + 9 + 15) q') ∧ (∀ q, fr ≤ q → q < M' (x + 9 + 13) (M' (x + 9) 10) → 0 ≤ M' (x + 9 + 15) q ∧ M' (x + 9 + 15) q < np ∧ M (x + 9 + 24) (M' (x + 9 + 15) q) = b)) := by
    intro vq
    induction vq using Nat.strongRecOn with
    | ind vq ih =>
      intro u M2 hvq f hlu hlu1 hg hfu hfu1 h6u hA hI hR
      have hP2 : PcH M2 x np L T R B := hP.fx (f x 6 (by omega)) (fun a a0 a1 => f.cell (fun j => (by omega)))
      have nb1 := nct_b (gq T L np g u) (-1) np.toNat
      replace hA := Hid.mk hA
      replace hg := Hid.mk hg
      replace hI := Hid.mk hI
      replace hR := Hid.mk hR
      refine rh1.of (rX30_findLines_12 hh _ _ _ _ _ hy hx ?_)
      rw [hlu]
      refine ⟨fun c => ⟨⟨by omega, by omega⟩, fun Ma ea => ?_⟩, fun c => ⟨f, g, u, G.out, rfl, (by omega), ⟨fun v hv => ⟨(hA.out v hv).1, (hA.out v hv).2.1⟩, ?_⟩, (by omega), (by omega), h6u, hI.out, fun q q0 q1 => ⟨(hR.out q (by omega) q1).1, (hR.out q (by omega) q1).2.1, (hR.out q (by omega) q1).2.2.2 q0⟩⟩⟩
      · generalize hs : nxg T L np (gq T L np g u) = s at c
        have sb : 0 ≤ s ∧ s < np ∧ gq T L np g u s = s := by
          rcases nxg_b (T := T) (L := L) (np := np) (g := gq T L np g u) with q | q
          · rw [hs] at q; exact absurd q c.1
          · rw [hs] at q; exact q
        have rm := nct_rm (g := gq T L np g u) (s := s) (by omega) np.toNat
        have nb2 := nct_b (fun i => if gq T L np g u i = s then -1 else gq T L np g u i) (-1) np.toNat
        have nb3 := nct_b (gq T L np g u) s np.toNat
        have eg : gq T L np g (u + 1) = fun i => if gq T L np g u i = s then -1 else gq T L np g u i := by
          show (fun i => if gq T L np g u i = nxg T L np (gq T L np g u) then -1 else gq T L np g u i) = _
          rw [hs]
        generalize hgu : gq T L np g u = gu at *
        have a1 : Ma (x + 9) 10 = l + u := by rw [ea, rh_set_a (by omega), hlu]
        have a2 : ∀ i, 0 ≤ i → i < np → Ma (x + 9 + 25) i = gu i := fun i i0 i1 => by rw [ea, rh_set_a (by omega)]; exact hg.out i i0 i1
        have hPa : PcH Ma x np L T R B := by rw [ea]; exact hP2.fx (rh_set_a (by omega)) (fun a a0 a1 => rh_set_n (by omega))
        rw [a1]
        refine rh1.s (vX30_findLines_47 hy (c_topOf hh (g := gu) (s := s) hx hy Ma hPa hnp a2) (LE0 rfl)) ?_
        refine rh1.of (rX30_findLines_50 hh _ _ _ _ _ _ _ _ _ hy hx ha10 ?_)
        refine ⟨⟨by omega, by omega⟩, ?_⟩
        generalize hMb : rh_set Ma (x + 9 + 10) (l + u) (lst T gu s 96 np.toNat) = Mb
        have b1 : Mb (x + 9) 10 = l + u := by rw [← hMb, rh_set_a (by omega), a1]
        have b2 : ∀ i, 0 ≤ i → i < np → Mb (x + 9 + 25) i = gu i := fun i i0 i1 => by rw [← hMb, rh_set_a (by omega)]; exact a2 i i0 i1
        have hPb : PcH Mb x np L T R B := by rw [← hMb]; exact hPa.fx (rh_set_a (by omega)) (fun a a0 a1 => rh_set_n (by omega))
        rw [b1]
        refine rh1.s (vX30_findLines_62 hy (c_leftOf hh (g := gu) (s := s) hx hy Mb hPb hnp b2) (LE0 rfl)) ?_
        refine rh1.of (rX30_findLines_65 hh _ _ _ _ _ _ _ _ _ hy hx ha12 ?_)
        refine ⟨⟨by omega, by omega⟩, ?_⟩
        generalize hMc : rh_set Mb (x + 9 + 12) (l + u) (lst L gu s 128 np.toNat) = Mc
        have c1 : Mc (x + 9) 10 = l + u := by rw [← hMc, rh_set_a (by omega), b1]
        rw [c1]
        refine ⟨⟨by omega, by omega⟩, fun Md ed => ?_⟩
        have d1 : Md (x + 9) 10 = l + u := by rw [ed, rh_set_a (by omega), c1]
        have d13 : Md (x + 9 + 13) (l + u) = M2 (x + 9 + 13) (l + u) := by rw [ed, rh_set_a (by omega), ← hMc, rh_set_a (by omega), ← hMb, rh_set_a (by omega), ea, rh_set_a (by omega)]
        rw [d1]
        refine ⟨⟨by omega, by omega⟩, fun w ew => ?_⟩
        rw [d13] at ew
        have d2 : ∀ i, 0 ≤ i → i < np → Md (x + 9 + 25) i = gu i := fun i i0 i1 => by rw [ed, rh_set_a (by omega), ← hMc, rh_set_a (by omega)]; exact b2 i i0 i1
        have hPd : PcH Md x np L T R B := by rw [ed, ← hMc]; exact hPb.fx (by rw [rh_set_a (by omega), rh_set_a (by omega)]) (fun a a0 a1 => by rw [rh_set_n (by omega), rh_set_n (by omega)])
        have fd : frx (Fln x l fr b) M Md := by
          rw [ed, ← hMc, ← hMb, ea]
          exact (((f.st (by omega)).st (by omega)).st (by omega)).st (by omega)
        have k9 : Md (x + 9 + 9) (l + u) = b := by rw [ed, rh_set_a (by omega), ← hMc, rh_set_a (by omega), ← hMb, rh_set_a (by omega), ea, rh_set_s]
        have k10 : Md (x + 9 + 10) (l + u) = lst T gu s 96 np.toNat := by rw [ed, rh_set_a (by omega), ← hMc, rh_set_a (by omega), ← hMb, rh_set_s]
        have k12 : Md (x + 9 + 12) (l + u) = lst L gu s 128 np.toNat := by rw [ed, rh_set_a (by omega), ← hMc, rh_set_s]
        have k6 : Md (x + 9 + 6) b = u := by rw [ed, rh_set_a (by omega), ← hMc, rh_set_a (by omega), ← hMb, rh_set_a (by omega), ea, rh_set_a (by omega), h6u]
        have fM : frx (fun c j => (c = x + 9 + 9 ∨ c = x + 9 + 10 ∨ c = x + 9 + 11 ∨ c = x + 9 + 12) ∧ j = l + u) M2 Md := by
          rw [ed, ← hMc, ← hMb, ea]
          exact (((frx.rf.st (by omega)).st (by omega)).st (by omega)).st (by omega)
        refine h_mem hh hx hy hx2 Md hPd hnp d2 d1 ⟨by omega, by omega⟩ (fr := w) (by omega) (by omega) (by rw [ed, rh_set_s]) (fun Me fe e11 em => ?_)
        have hPe : PcH Me x np L T R B := hPd.fx (fe x 6 (by omega)) (fun a a0 a1 => fe.cell (fun j => (by omega)))
        refine h_rm hh hx hy hx2 Me hPe hnp (g := gu) (l := l + u) (fun i i0 i1 => by rw [fe _ _ (by omega)]; exact d2 i i0 i1) (by rw [fe _ _ (by omega), d1]) ⟨by omega, by omega⟩ hb (by rw [fe _ _ (by omega), k6]; omega) (fun Mf ff l10 l13 l6 lg => ?_)
        have hPf : PcH Mf x np L T R B := hPe.fx (ff x 6 (by omega)) (fun a a0 a1 => ff.cell (fun j => (by omega)))
        have eqg : ∀ i, 0 ≤ i → i < np → Mf (x + 9 + 25) i = gq T L np g (u + 1) i := fun i i0 i1 => by rw [lg i i0 i1, eg]
        refine rh1.s (vX30_findLines_291 hy (c_nextGroup hh (g := gq T L np g (u + 1)) hx hy Mf hPf hnp eqg) (LE0 rfl)) ?_
        refine rh1.of (rX30_findLines_294 hh _ _ _ _ _ hy hx ?_)
        rw [fe _ _ (by omega), k6] at l6
        have eU : l + ((u + 1 : Nat) : Int) = l + u + 1 := (by omega)
        have w13 : Mf (x + 9 + 13) (l + u) = w := by rw [ff _ _ (by omega), fe _ _ (by omega), d13, ew]
        have old : ∀ q, q < w → Mf (x + 9 + 15) q = M2 (x + 9 + 15) q := fun q hq => by rw [ff _ _ (by omega), fe _ _ (by omega), fM _ _ (by omega)]
        have new : ∀ q, w ≤ q → q < w + nct gu s np.toNat → Mf (x + 9 + 15) q = mem L T gu s np.toNat (q - w) ∧ True := fun q h0 h1 => ⟨by
          have := em (q - w) (by omega) (by omega)
          rw [show w + (q - w) = q by omega] at this
          rw [ff _ _ (by omega)]; exact this, trivial⟩
        replace old := Hid.mk old
        replace new := Hid.mk new
        refine ih _ (by omega) (u + 1) Mf rfl ?_ (by rw [eU]; exact l10) (by omega) eqg ?_ ?_ (by rw [l6]; omega) (fun v hv => ?_) (fun q q' q0 q1 q2 => ?_) (fun q q0 q1 => ?_)
        · exact (fd.tr (fe.w (fun c j hc => by unfold Fln; omega))).tr (ff.w (fun c j hc => by unfold Fln; omega))
        · rw [eU, l13, eg, rm]; omega
        · rw [eU, l13]; omega
        · rw [eU, l13]
          by_cases q : v = u
          · rw [q, hgu, hs]
            refine ⟨c.1, ⟨?_, ?_, ?_, ?_, ?_, ?_, fun j j0 j1 => ?_⟩, by rw [l13]; exact Int.le_refl _⟩
            · rw [ff _ _ (by omega), fe _ _ (by omega), k9]
            · rw [ff _ _ (by omega), fe _ _ (by omega), k10]
            · rw [ff _ _ (by omega), e11]
            · rw [ff _ _ (by omega), fe _ _ (by omega), k12]
            · rw [l13, w13]
            · rw [l13, w13]; exact ⟨by omega, by omega⟩
            · rw [w13, ff _ _ (by omega)]; exact em j j0 j1
          · obtain ⟨v1, v2, v3⟩ := hA.out v (by omega)
            have z : Mf (x + 9 + 13) (l + v + 1) = M2 (x + 9 + 13) (l + v + 1) := by rw [ff _ _ (by omega), fe _ _ (by omega), fM _ _ (by omega)]
            refine ⟨v1, v2.fx ?_ ?_ ?_ ?_ ?_ z (fun j j1 => ?_), by rw [z]; omega⟩
            · rw [ff _ _ (by omega), fe _ _ (by omega), fM _ _ (by omega)]
            · rw [ff _ _ (by omega), fe _ _ (by omega), fM _ _ (by omega)]
            · rw [ff _ _ (by omega), fe _ _ (by omega), fM _ _ (by omega)]
            · rw [ff _ _ (by omega), fe _ _ (by omega), fM _ _ (by omega)]
            · rw [ff _ _ (by omega), fe _ _ (by omega), fM _ _ (by omega)]
            · rw [ff _ _ (by omega), fe _ _ (by omega), fM _ _ (by omega)]
        · rw [eU, l13] at q2
          by_cases z' : q' < w
          · rw [old.out q (by omega), old.out q' (by omega)]; exact hI.out q q' q0 q1 (by omega)
          · have e' := new.out q' (by omega) q2
            have b' := mem_b (L := L) (T := T) (g := gu) (s := s) np.toNat (q' - w) (by omega) (by omega)
            by_cases z : q < w
            · rw [old.out q (by omega), e'.1]
              intro y
              have := (hR.out q q0 (by omega)).2.2.1
              rw [y, b'.2.2] at this
              exact c.1 this
            · rw [(new.out q (by omega) (by omega)).1, e'.1]
              exact mem_inj np.toNat _ _ (by omega) (by omega) (by omega)
        · rw [eU, l13] at q1
          by_cases z : q < w
          · obtain ⟨r1, r2, r3, r4⟩ := hR.out q q0 (by omega)
            rw [old.out q (by omega), eg]
            refine ⟨r1, r2, ?_, r4⟩
            show (if gu (M2 (x + 9 + 15) q) = s then -1 else gu (M2 (x + 9 + 15) q)) = -1
            rw [r3]; split <;> rfl
          · have b' := mem_b (L := L) (T := T) (g := gu) (s := s) np.toNat (q - w) (by omega) (by omega)
            rw [(new.out q (by omega) q1).1, eg]
            refine ⟨b'.1, (by omega), ?_, fun _ => ?_⟩
            · show (if gu (mem L T gu s np.toNat (q - w)) = s then -1 else gu (mem L T gu s np.toNat (q - w))) = -1
              rw [if_pos b'.2.2]
            · have h1 : g (mem L T gu s np.toNat (q - w)) = s := by
                have := gq_mono (T := T) (L := L) (np := np) (g := g) u (mem L T gu s np.toNat (q - w)) (by rw [hgu, b'.2.2]; exact c.1)
                rw [this, hgu, b'.2.2]
              have h2 := (G.out.1.1 (mem L T gu s np.toNat (q - w)) b'.1 (by omega)).1
              by_cases y : M (x + 9 + 24) (mem L T gu s np.toNat (q - w)) = b
              · exact y
              · exact absurd ((h2.mpr y).symm.trans h1) (fun k => c.1 k.symm)
      · by_cases q : nxg T L np (gq T L np g u) = -1
        · exact .inr q
        · exact .inl (by by_cases z : l + (u : Int) < 60; exact absurd ⟨q, z⟩ c; omega)
  refine key _ 0 M1 rfl f1' (by rw [f1 _ _ (by omega), hl9]; simp) (by omega) (fun i _ _ => by rw [hgg]; rfl) ?_ ?_ (by rw [f1 _ _ (by omega), h6]; rfl) (fun v hv => by omega) ?_ ?_
  · show M1 (x + 9 + 13) (l + ((0 : Nat) : Int)) + np - nct g (-1) np.toNat = _
    rw [f1 _ _ (by omega), show l + ((0 : Nat) : Int) = l by omega, hf9]
  · rw [f1 _ _ (by omega), show l + ((0 : Nat) : Int) = l by omega, hf9]; exact Int.le_refl _
  · rw [f1 (x + 9 + 13) _ (by omega), show l + ((0 : Nat) : Int) = l by omega, hf9, f1.cell (a := x + 9 + 15) (fun j => (by omega))]
    exact hInj
  · rw [f1 (x + 9 + 13) _ (by omega), show l + ((0 : Nat) : Int) = l by omega, hf9, f1.cell (a := x + 9 + 15) (fun j => (by omega))]
    intro q q0 q1
    obtain ⟨r1, r2, r3⟩ := hQ q q0 q1
    exact ⟨r1, r2, (G.out.1.1 _ r1 r2).1.mpr r3, fun z => by omega⟩
end LinesH
