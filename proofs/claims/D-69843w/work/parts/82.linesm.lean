/-! ===== LAYER 2: the lines of a block, the model (with the house's words at its side) ===== -/
section LinesM
variable {wh wm : rhW} {L T R B : Int → Int} {np : Int}
theorem gq_al {g : Int → Int} {s : Int} (s0 : 0 ≤ s) : ∀ u : Nat, gq T L np g u s = s → ∀ j, (gq T L np g u j = s ↔ g j = s)
  | 0 => fun _ j => Iff.rfl
  | u + 1 => fun h j => by
    simp only [gq] at h ⊢
    by_cases q : gq T L np g u s = nxg T L np (gq T L np g u)
    · rw [if_pos q] at h; omega
    · rw [if_neg q] at h
      rw [← gq_al s0 u h j]
      by_cases r : gq T L np g u j = nxg T L np (gq T L np g u)
      · rw [if_pos r]
        exact ⟨fun z => by omega, fun z => absurd (h.trans (z.symm.trans r)) q⟩
      · rw [if_neg r]
theorem Grp.blk {blk blk' g : Int → Int} {b : Int} (h : Grp T B blk b np g) (e : ∀ i, 0 ≤ i → i < np → blk' i = blk i) : Grp T B blk' b np g :=
  ⟨⟨fun i i0 i1 => by rw [e i i0 i1]; exact h.1.1 i i0 i1, fun F hF i i0 i1 hb => h.1.2 F (fun u v u0 u1 v0 v1 bu bv => hF u v u0 u1 v0 v1 (by rw [e u u0 u1]; exact bu) (by rw [e v v0 v1]; exact bv)) i i0 i1 (by rw [← e i i0 i1]; exact hb)⟩, h.2⟩
theorem Grp.cg {blk g g' : Int → Int} {b : Int} (h : Grp T B blk b np g) (e : ∀ i, 0 ≤ i → i < np → g' i = g i) : Grp T B blk b np g' :=
  ⟨h.1.cg e, fun i j i0 i1 j0 j1 => by rw [e i i0 i1, e j j0 j1]; exact h.2 i j i0 i1 j0 j1⟩
theorem c_isBeforePiece (hm : rh_ms wm) {i j : Int} (M : rhM) (hP : PcN M np L T R B) (hnp : 0 ≤ np ∧ np ≤ 300) (hi : 0 ≤ i ∧ i < np) (hj : 0 ≤ j ∧ j < np) :
    eC wm YX32_isBeforePiece 0 [(2, 0), (0, i), (0, j)] M (rh_if (lef L T i j) 1 0) M := by
  refine eC.of1 (rC1.of (by decide) (LE0 rfl) ?_)
  refine rh1.of (rX32_isBeforePiece_0 hm _ _ _ ?_)
  obtain ⟨i1, i2, -, -⟩ := hP.2 i hi.1 hi.2
  obtain ⟨j1, j2, -, -⟩ := hP.2 j hj.1 hj.2
  rw [i1, i2, j1, j2]
  unfold lef
  refine ⟨⟨by omega, by omega⟩, ⟨by omega, by omega⟩, fun a => ⟨⟨by omega, by omega⟩, ⟨by omega, by omega⟩, fun b => ⟨⟨by omega, by omega⟩, ⟨by omega, by omega⟩, fun c => ⟨⟨by omega, by omega⟩, ⟨by omega, by omega⟩, rh_if_cg ?_, rfl⟩, fun c => ⟨?_, rfl⟩⟩, fun b => ⟨?_, rfl⟩⟩, fun a => ⟨?_, rfl⟩⟩
  · omega
  · rw [rh_if_t (by omega)]
  · rw [rh_if_f (by omega)]
  · rw [rh_if_t (by omega)]
theorem c_isEarlierSet (hm : rh_ms wm) {i j : Int} (M : rhM) (hi : 0 ≤ i ∧ i < 300) (hj : 0 ≤ j ∧ j < 300) :
    eC wm YX32_isEarlierSet 0 [(2, 0), (0, i), (0, j)] M (rh_if (M 50 i < M 50 j ∨ (M 50 i = M 50 j ∧ (M 51 i < M 51 j ∨ (M 51 i = M 51 j ∧ i < j)))) 1 0) M := by
  refine eC.of1 (rC1.of (by decide) (LE0 rfl) ?_)
  refine rh1.of (rX32_isEarlierSet_0 hm _ _ _ ?_)
  refine ⟨hi, hj, fun a => ⟨hi, hj, fun b => ⟨hi, hj, fun c => ⟨hi, hj, rh_if_cg ?_, rfl⟩, fun c => ⟨?_, rfl⟩⟩, fun b => ⟨?_, rfl⟩⟩, fun a => ⟨?_, rfl⟩⟩
  · omega
  · rw [rh_if_t (by omega)]
  · rw [rh_if_f (by omega)]
  · rw [rh_if_t (by omega)]
/-- one piece is put into its line -/
theorem m_ins (hm : rh_ms wm) {p s l i : Int} {a : Int → Int} {c : Nat} (M : rhM) (hP : PcN M np L T R B) (hnp : 0 ≤ np ∧ np ≤ 300) (hc : c < 300) (hi : 0 ≤ i ∧ i < np) (ha : ∀ j : Int, 0 ≤ j → j < c → M 53 j = a j) (hr : ∀ j : Int, 0 ≤ j → j < c → 0 ≤ a j ∧ a j < np) {P : Int → rhM → Prop}
    (K : ∀ M', frx (fun u j => u = 53) M M' → (∀ j : Int, 0 ≤ j → j < ((c + 1 : Nat) : Int) → M' 53 j = inz (lef L T) a i c j) → rh1 wm YX32_lineOfSet 3 90 [(0, 2, 0), (1, 0, p), (3, 0, s), (4, 0, l), (5, 0, i + 1)] [] M' P) :
    rh1 wm YX32_lineOfSet 3 198 [(0, 2, 0), (1, 0, p), (3, 0, s), (4, 0, l), (5, 0, i), (6, 0, (c : Int))] [] M P := by
  replace ha := Hid.mk ha
  replace hr := Hid.mk hr
  replace K := Hid.mk K
  have key : ∀ (vq : Nat) (t : Nat) (M2 : rhM), ((t : Int)).toNat = vq → (t ≤ c) → (frx (fun u j => u = 53) M M2) → ((∀ j : Int, 0 ≤ j → j < t → M2 53 j = a j)) → ((∀ j : Int, t < j → j ≤ c → M2 53 j = a (j - 1))) → (ips (lef L T) a i c = ips (lef L T) a i t) → rh1 wm YX32_lineOfSet 3 198 [(0, 2, 0), (1, 0, p), (3, 0, s), (4, 0, l), (5, 0, i), (6, 0, (t : Int))] [] M2 P := by
    intro vq
    induction vq using Nat.strongRecOn with
    | ind vq ih =>
      intro t M2 hvq t1 f h1 h2 h3
      have hP2 : PcN M2 np L T R B := hP.fx (f 0 31 (by omega)) (fun a a0 a1 => f.cell (fun j => (by omega)))
      replace h1 := Hid.mk h1
      replace h2 := Hid.mk h2
      have fin : ips (lef L T) a i t = t → rh1 wm YX32_lineOfSet 3 90 [(0, 2, 0), (1, 0, p), (3, 0, s), (4, 0, l), (5, 0, i + 1)] [] (rh_set M2 53 t i) P := fun e => by
        refine K.out _ (f.st rfl) (fun j j0 j1 => ?_)
        unfold inz
        rw [h3, e]
        by_cases q : j < t
        · rw [if_pos q, rh_set_j (by omega)]; exact h1.out j j0 q
        · rw [if_neg q]
          by_cases r : j = t
          · rw [if_pos r, r, rh_set_s]
          · rw [if_neg r, rh_set_j (by omega)]; exact h2.out j (by omega) (by omega)
      replace fin := Hid.mk fin
      refine rh1.of (rX32_lineOfSet_198 hm _ _ _ _ _ _ ?_)
      refine ⟨fun z => ⟨⟨by omega, by omega⟩, ?_⟩, fun z => ⟨⟨by omega, by omega⟩, ⟨by omega, by omega⟩, fin.out (by rw [show t = 0 by omega]; rfl)⟩⟩
      obtain ⟨t', et⟩ : ∃ t' : Nat, t = t' + 1 := ⟨t - 1, (by omega)⟩
      have ea : M2 53 ((t : Int) - 1) = a t' := by
        rw [show (t : Int) - 1 = (t' : Int) by omega]; exact h1.out t' (by omega) (by omega)
      have hr2 := hr.out t' (by omega) (by omega)
      rw [ea]
      refine rh1.s (vX32_lineOfSet_215 hm (c_isBeforePiece hm M2 hP2 hnp hi hr2) (LE0 rfl)) ?_
      refine rh1.of (rX32_lineOfSet_218 hm _ _ _ _ _ _ _ ?_)
      rw [if1_ne, ea]
      refine ⟨fun y => ⟨⟨by omega, by omega⟩, ⟨by omega, by omega⟩, ⟨by omega, by omega⟩, ?_⟩, fun y => ⟨⟨by omega, by omega⟩, ⟨by omega, by omega⟩, fin.out (by rw [et]; simp only [ips]; rw [rh_if_f y])⟩⟩
      rw [show (t : Int) + -1 = (t' : Int) by omega]
      refine ih _ (by omega) t' _ rfl (by omega) (f.st rfl) (fun j j0 j1 => ?_) (fun j j0 j1 => ?_) ?_
      · rw [rh_set_j (by omega)]; exact h1.out j j0 (by omega)
      · by_cases q : j = t
        · rw [q, rh_set_s, show (t : Int) - 1 = t' by omega]
        · rw [rh_set_j (by omega)]; exact h2.out j (by omega) j1
      · rw [h3, et]; simp only [ips]; rw [rh_if_t y]
  exact key _ c M rfl (Nat.le_refl _) frx.rf ha.out (fun j j0 j1 => by omega) rfl
abbrev Gln (p l b c j : Int) : Prop := (c = 25 ∧ j = p) ∨ (c = 32 ∧ j = 20 * p + b) ∨ (33 ≤ c ∧ c ≤ 38 ∧ j = 60 * p + l) ∨ (c = 0 ∧ j = 70) ∨ c = 53
/-- a line up to its words -/
theorem m_line (hm : rh_ms wm) {p b s l : Int} {g : Int → Int} (hp : 0 ≤ p ∧ p < 8) (hb : 0 ≤ b ∧ b < 20) (M : rhM) (hP : PcN M np L T R B) (hnp : 0 ≤ np ∧ np ≤ 300) (hg : ∀ i, 0 ≤ i → i < np → M 49 i = g i) (hl : M 25 p = l) (hl0 : 0 ≤ l ∧ l < 60) (h32 : 0 ≤ M 32 (20 * p + b) ∧ M 32 (20 * p + b) < 1000) {P : Int → rhM → Prop}
    (K : ∀ M', frx (Gln p l b) M M' → M' 25 p = l + 1 → M' 32 (20 * p + b) = M 32 (20 * p + b) + 1 → M' 33 (60 * p + l) = b → M' 34 (60 * p + l) = lst T g s 999 np.toNat → M' 35 (60 * p + l) = gst B g s 0 np.toNat → M' 36 (60 * p + l) = lst L g s 999 np.toNat → M' 37 (60 * p + l) = nct g s np.toNat → M' 38 (60 * p + l) = 0 → M' 0 70 = nct g s np.toNat → (∀ j : Int, 0 ≤ j → j < nct g s np.toNat → M' 53 j = mem L T g s np.toNat j) → rh1 wm YX32_lineOfSet 3 273 [] [(0, 60 * p + l), (0, p), (2, 0)] M' P) :
    rh1 wm YX32_lineOfSet 3 0 [(0, 2, 0), (1, 0, p), (2, 0, b), (3, 0, s)] [] M P := by
  replace K := Hid.mk K
  replace hg := Hid.mk hg
  have lr : 0 ≤ 60 * p + l ∧ 60 * p + l < 480 := ⟨by omega, by omega⟩
  have br : 0 ≤ 20 * p + b ∧ 20 * p + b < 160 := ⟨by omega, by omega⟩
  refine rh1.of (rX32_lineOfSet_0 hm _ _ _ _ ?_)
  rw [hl]
  refine ⟨hp, ?_⟩
  rintro _ rfl
  refine ⟨⟨by omega, by omega⟩, hp, hp, ⟨by omega, by omega⟩, ?_⟩
  rintro _ rfl
  simp (disch := omega) only [rh_set_a]
  refine ⟨br, ?_⟩
  rintro _ rfl
  refine ⟨br, ⟨by omega, by omega⟩, lr, lr, lr, lr, lr, ?_⟩
  have key : ∀ (vq : Nat) (k : Nat) (M2 : rhM), (np - k).toNat = vq → ((k : Int) ≤ np) → (frx (Gln p l b) M M2) → (M2 25 p = l + 1) → (M2 32 (20 * p + b) = M 32 (20 * p + b) + 1) → (M2 33 (60 * p + l) = b) → (M2 34 (60 * p + l) = lst T g s 999 k) → (M2 35 (60 * p + l) = gst B g s 0 k) → (M2 36 (60 * p + l) = lst L g s 999 k) → (M2 38 (60 * p + l) = 0) → (M2 0 70 = nct g s k) → ((∀ j : Int, 0 ≤ j → j < nct g s k → M2 53 j = mem L T g s k j)) → rh1 wm YX32_lineOfSet 3 90 [(0, 2, 0), (1, 0, p), (3, 0, s), (4, 0, 60 * p + l), (5, 0, (k : Int))] [] M2 P := by
    intro vq
    induction vq using Nat.strongRecOn with
    | ind vq ih =>
      intro k M2 hvq k1 f d1 d2 d3 d4 d5 d6 d8 d9 d10
      have eK : (k : Int) + 1 = ((k + 1 : Nat) : Int) := (by omega)
      have hP2 : PcN M2 np L T R B := hP.fx (f 0 31 (by omega)) (fun a a0 a1 => f.cell (fun j => (by omega)))
      have nb := nct_b g s k
      replace d10 := Hid.mk d10
      refine rh1.of (rX32_lineOfSet_90 hm _ _ _ _ _ ?_)
      rw [hP2.1]
      refine ⟨fun c => ⟨⟨by omega, by omega⟩, fun d => ?_, fun d => ⟨⟨by omega, by omega⟩, ?_⟩⟩, fun c => ⟨lr, ?_⟩⟩
      · rw [f 49 k (by omega), hg.out k (by omega) c] at d
        obtain ⟨p1, p2, -, p4⟩ := hP2.2 k (by omega) c
        rw [p2, d4]
        refine ⟨lr, ⟨by omega, by omega⟩, fun v1 e1 => ⟨lr, lr, ⟨by omega, by omega⟩, ?_⟩⟩
        simp (disch := omega) only [rh_set_a, p4, d5]
        refine fun v2 e2 => ⟨lr, ?_⟩
        rintro _ rfl
        simp (disch := omega) only [rh_set_a, p1, d6]
        refine ⟨lr, ⟨by omega, by omega⟩, fun v3 e3 => ⟨lr, ?_⟩⟩
        rintro _ rfl
        simp (disch := omega) only [rh_set_a, d9]
        rintro _ rfl
        refine ⟨⟨by omega, by omega⟩, ?_⟩
        have cc : nct g s k = ((nct g s k).toNat : Int) := (by omega)
        have e1' : nct g s (k + 1) = nct g s k + 1 := by simp only [nct]; rw [if_pos d]
        generalize hM3 : rh_set (rh_set (rh_set (rh_set M2 34 (60 * p + l) v1) 35 (60 * p + l) v2) 36 (60 * p + l) v3) 0 70 (nct g s k + 1) = M3
        have hP3 : PcN M3 np L T R B := by rw [← hM3]; exact hP2.fx (by simp (disch := omega) only [rh_set_a, rh_set_j]) (fun a a0 a1 => by simp (disch := omega) only [rh_set_n])
        have F3 : frx (Gln p l b) M M3 := by rw [← hM3]; exact (((f.st (by omega)).st (by omega)).st (by omega)).st (by omega)
        rw [cc]
        refine m_ins hm M3 hP3 hnp (a := mem L T g s k) (by omega) ⟨(by omega), c⟩ (fun j j0 j1 => ?_) (fun j j0 j1 => ?_) (fun M4 f4 h4 => ?_)
        · rw [← hM3]; simp (disch := omega) only [rh_set_a]; exact d10.out j j0 (by omega)
        · have := mem_b (L := L) (T := T) (g := g) (s := s) k j j0 (by omega)
          exact ⟨by omega, by omega⟩
        · rw [eK]
          refine ih _ (by omega) (k + 1) M4 rfl (by omega) (F3.tr (f4.w (fun u j hu => by unfold Gln; omega))) ?_ ?_ ?_ ?_ ?_ ?_ ?_ ?_ (fun j j0 j1 => ?_)
          · rw [f4 _ _ (by omega), ← hM3]; simp (disch := omega) only [rh_set_a, d1]
          · rw [f4 _ _ (by omega), ← hM3]; simp (disch := omega) only [rh_set_a, d2]
          · rw [f4 _ _ (by omega), ← hM3]; simp (disch := omega) only [rh_set_a, d3]
          · rw [f4 _ _ (by omega), ← hM3]
            simp (disch := omega) only [rh_set_a, rh_set_s]
            rw [e1, rh_ifd]
            simp only [lst]
            rw [d]; exact mn_lst s
          · rw [f4 _ _ (by omega), ← hM3]
            simp (disch := omega) only [rh_set_a, rh_set_s]
            rw [e2, rh_ifd]
            simp only [gst]
            rw [d]; exact mx_gst s
          · rw [f4 _ _ (by omega), ← hM3]
            simp (disch := omega) only [rh_set_a, rh_set_s]
            rw [e3, rh_ifd]
            simp only [lst]
            rw [d]; exact mn_lst s
          · rw [f4 _ _ (by omega), ← hM3]; simp (disch := omega) only [rh_set_a, d8]
          · rw [f4 _ _ (by omega), ← hM3, rh_set_s, e1']
          · rw [h4 j j0 (by omega)]
            simp only [mem]
            rw [rh_if_t d]
      · rw [f 49 k (by omega), hg.out k (by omega) c] at d
        have e1' : nct g s (k + 1) = nct g s k := by simp only [nct]; rw [if_neg d]; omega
        rw [eK]
        refine ih _ (by omega) (k + 1) M2 rfl (by omega) f d1 d2 d3 ?_ ?_ ?_ d8 (by rw [e1']; exact d9) (fun j j0 j1 => ?_)
        · simp only [lst]; rw [if_neg (fun z => d z.1)]; exact d4
        · simp only [gst]; rw [if_neg (fun z => d z.1)]; exact d5
        · simp only [lst]; rw [if_neg (fun z => d z.1)]; exact d6
        · simp only [mem]; rw [rh_if_f d]; exact d10.out j j0 (by omega)
      · have ek : k = np.toNat := (by omega)
        rw [ek] at d4 d5 d6 d9 d10
        rw [d9]
        refine K.out _ (f.st (by omega)) ?_ ?_ ?_ ?_ ?_ ?_ (rh_set_s _ _ _ _) ?_ ?_ (fun j j0 j1 => ?_)
        all_goals simp (disch := omega) only [rh_set_a, d1, d2, d3, d4, d5, d6, d8, d9]
        exact d10.out j j0 j1
  refine key _ 0 _ rfl hnp.1 (((((((frx.rf.st (by omega)).st (by omega)).st (by omega)).st (by omega)).st (by omega)).st (by omega)).st (by omega) |>.st (by omega)) ?_ ?_ ?_ ?_ ?_ ?_ ?_ ?_ (fun j j0 j1 => by simp only [nct] at j1; omega)
  all_goals simp (disch := omega) only [rh_set_a, rh_set_s]
  all_goals rfl
end LinesM
