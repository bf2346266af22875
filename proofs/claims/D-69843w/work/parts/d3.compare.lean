/-! ===== LAYER 2: compare: the known text, the reading's own text ===== -/
section Compare
variable {wh wm : rhW}
def Knw (A B : rhM) : Prop := A 0 32 = B 0 179 ∧ (0 ≤ B 0 179 ∧ B 0 179 ≤ 400) ∧ ∀ t, 0 ≤ t → t < B 0 179 → A 244 t = B 141 t ∧ 32 ≤ B 141 t ∧ B 141 t ≤ 126
def Fkh (c j : Int) : Prop := (c = 1 ∧ j = 3) ∨ (c = 0 ∧ j = 32) ∨ c = 244 ∨ (c = 3 ∧ j = 6)
def Fkm (c j : Int) : Prop := (c = 0 ∧ j = 179) ∨ c = 141
theorem by_k {x c : Int} (h : rh_and x 255 = c) (hx : -128 ≤ x ∧ x ≤ 127) : (x = 10 ∨ x = 32) ↔ (c = 10 ∨ c = 32) := by
  rw [by_e hx] at h
  split at h <;> omega
theorem Knw.add {A B : rhM} (K : Knw A B) {c : Int} (hc : 32 ≤ c ∧ c ≤ 126) (h : B 0 179 < 400) {A' B' : rhM} (hA : A' = rh_set (rh_set A 0 32 (A 0 32 + 1)) 244 (A 0 32) c) (hB : B' = rh_set (rh_set B 141 (B 0 179) c) 0 179 (rh_set B 141 (B 0 179) c 0 179 + 1)) : Knw A' B' ∧ B' 0 179 = B 0 179 + 1 := by
  obtain ⟨k1, k2, k3⟩ := K
  have e1 : B' 0 179 = B 0 179 + 1 := by rw [hB, rh_set_s, rh_set_a (by decide)]
  have e2 : A' 0 32 = A 0 32 + 1 := by rw [hA, rh_set_a (by decide), rh_set_s]
  refine ⟨⟨by rw [e1, e2, k1], by omega, fun t t0 t1 => ?_⟩, e1⟩
  rw [hA, hB, rh_set_a (a := 141) (by decide)]
  by_cases e : t = B 0 179
  · rw [e, rh_set_s, k1, rh_set_s]
    exact ⟨rfl, hc⟩
  · rw [rh_set_j (by omega), rh_set_a (by decide), rh_set_j e]
    exact k3 t t0 (by omega)
theorem c_knownT (hh : rh_hs wh) (hm : rh_ms wm) {Mh Mm : rhM} (T : Rtp Mh Mm) : rCy wh YX1_findKnown 2 [(2, 0)] Mh wm YX32_readKnown 1 [(2, 0)] Mm (fun o M' r2 M2' => (frx Fkh Mh M' ∧ frx Fkm Mm M2') ∧ ((o = none ∧ M' 3 6 = r2 ∧ 0 ≤ r2 ∧ r2 < 4096) ∨ (o = some 0 ∧ r2 = -1 ∧ Knw M' M2'))) := by
  refine rCy.of (by decide) (LE0 rfl) (by decide) (LE0 rfl) ?_
  obtain ⟨t1, t2, t3, t4⟩ := T
  obtain ⟨n, hn⟩ : ∃ n, Mm 0 2 = n := ⟨_, rfl⟩
  rw [hn] at t1 t2 t3 t4
  have key : ∀ (u : Nat) (k w : Int) (A B : rhM), k + u = n → 0 ≤ k → (w = 0 ∨ w = 1) → Knw A B → frx Fkh Mh A → frx Fkm Mm B → rx2 wh YX1_findKnown 2 17 [(0, 2, 0), (1, 0, n), (2, 0, w), (3, 0, k)] [] A wm YX32_readKnown 1 9 [(0, 2, 0), (1, 0, w), (2, 0, k)] [] B (fun o M' r2 M2' => (frx Fkh Mh M' ∧ frx Fkm Mm M2') ∧ ((o = none ∧ M' 3 6 = r2 ∧ 0 ≤ r2 ∧ r2 < 4096) ∨ (o = some 0 ∧ r2 = -1 ∧ Knw M' M2'))) := by
    intro u
    induction u with
    | zero =>
      intro k w A B hk k0 hw K fA fB
      have eB : B 0 2 = n := by rw [fB 0 2 (by unfold Fkm; omega)]; exact hn
      refine rx2.l (rX1_findKnown_17 hh _ _ _ _ ?_)
      refine ⟨fun z => by omega, fun _ => ?_⟩
      refine rh1.of (rX32_readKnown_9 hm _ _ _ ?_)
      rw [eB]
      exact ⟨fun z => by omega, fun _ => ⟨⟨fA, fB⟩, .inr ⟨rfl, rfl, K⟩⟩⟩
    | succ u ih =>
      intro k w A B hk k0 hw K fA fB
      have eB : B 0 2 = n := by rw [fB 0 2 (by unfold Fkm; omega)]; exact hn
      have eA2 : A 2 k = Mh 2 k := fA 2 k (by unfold Fkh; omega)
      have eB1 : B 1 k = Mm 1 k := fB 1 k (by unfold Fkm; omega)
      obtain ⟨v1, v2, v3⟩ := t4 k k0 (by omega)
      have hbl := by_k v1 v3
      have hsg := by_s v1 v3
      rw [← eA2, ← eB1] at hbl hsg
      have v3' : -128 ≤ A 2 k ∧ A 2 k ≤ 127 := by rw [eA2]; exact v3
      obtain ⟨k1, k2, k3⟩ := id K
      refine rx2.l (rX1_findKnown_17 hh _ _ _ _ ?_)
      refine ⟨fun _ => ⟨⟨by omega, by omega⟩, ?_⟩, fun z => by omega⟩
      intro y hy
      by_cases bl : A 2 k = 10 ∨ A 2 k = 32
      · rw [rh_if_t bl] at hy
        rw [hy, rh_if_t (.inl (show (1 : Int) ≠ 0 by decide))]
        refine rx2.gl (vgX1_findKnown_77 hh (c_must hh (by decide) _) (LE0 rfl)) ?_
        refine rx2.l (rX1_findKnown_80 hh _ _ _ _ _ _ ?_)
        refine ⟨fun _ => ?_, fun z => absurd (show (1 : Int) ≠ 0 by decide) z⟩
        intro y2 hy2
        refine ⟨⟨by omega, by omega⟩, ?_⟩
        refine rx2.r (rX32_readKnown_9 hm _ _ _ ?_)
        rw [eB]
        refine ⟨fun _ => ⟨⟨by omega, by omega⟩, fun _ => ?_, fun z => absurd (hbl.mp bl) z⟩, fun z => by omega⟩
        intro y3 hy3
        rw [← k1, ← hy2] at hy3
        rw [hy3]
        refine ⟨⟨by omega, by omega⟩, ih (k + 1) y2 A B (by omega) (by omega) ?_ K fA fB⟩
        rw [hy2]
        by_cases q : 0 < A 0 32
        · rw [rh_if_t q]; exact .inr rfl
        · rw [rh_if_f q]; exact .inl rfl
      · rw [rh_if_f bl] at hy
        have nb : ¬ (B 1 k = 10 ∨ B 1 k = 32) := fun z => bl (hbl.mpr z)
        by_cases sg : 33 ≤ A 2 k ∧ A 2 k ≤ 126
        case neg =>
          rw [hy, rh_if_f (show ¬ ((0 : Int) ≠ 0 ∨ (33 ≤ A 2 k ∧ A 2 k ≤ 126)) from fun z => z.elim (fun a => a rfl) sg)]
          refine rx2.t (vtX1_findKnown_77 hh (c_mustT hh _) (LE0 rfl)) ?_
          refine rh1.of (rX32_readKnown_9 hm _ _ _ ?_)
          rw [eB]
          have ns : ¬ (33 ≤ B 1 k ∧ B 1 k ≤ 126) := fun z => sg (hsg.1.mpr z)
          refine ⟨fun _ => ⟨⟨by omega, by omega⟩, fun z => absurd z nb, fun _ => ?_⟩, fun z => by omega⟩
          intro y3 hy3
          exact ⟨fun z => absurd z ns, fun _ => ⟨⟨fA.st (by unfold Fkh; omega), fB⟩, .inl ⟨rfl, rh_set_s _ _ _ _, k0, (by omega)⟩⟩, fun z => absurd (.inl ns) z⟩
        have sgB := hsg.1.mp sg
        have eAB := hsg.2 sgB
        rw [hy, rh_if_t (show (0 : Int) ≠ 0 ∨ (33 ≤ A 2 k ∧ A 2 k ≤ 126) from .inr sg)]
        refine rx2.gl (vgX1_findKnown_77 hh (c_must hh (by decide) _) (LE0 rfl)) ?_
        refine rx2.l (rX1_findKnown_80 hh _ _ _ _ _ _ ?_)
        refine ⟨fun z => absurd rfl z, fun _ => ⟨?_, ?_⟩⟩
        · rcases hw with rfl | rfl
          · rw [rh_if_f (by decide)]; exact ⟨by omega, by omega⟩
          · rw [rh_if_t (by decide)]; exact ⟨by omega, by omega⟩
        have ew : (rh_if (w ≠ 0) (1 : Int) 0 = 0 ∧ rh_if (w ≠ 0) (2 : Int) 1 = 1) ∨ (rh_if (w ≠ 0) (1 : Int) 0 = 1 ∧ rh_if (w ≠ 0) (2 : Int) 1 = 2) := by
          rcases hw with rfl | rfl
          · exact .inl ⟨rh_if_f (by decide), rh_if_f (by decide)⟩
          · exact .inr ⟨rh_if_t (by decide), rh_if_t (by decide)⟩
        by_cases rm : A 0 32 + rh_if (w ≠ 0) (1 : Int) 0 < 400
        case neg =>
          rw [rh_if_f rm]
          refine rx2.t (vtX1_findKnown_131 hh (c_mustT hh _) (LE0 rfl)) ?_
          refine rh1.of (rX32_readKnown_9 hm _ _ _ ?_)
          rw [eB]
          refine ⟨fun _ => ⟨⟨by omega, by omega⟩, fun z => absurd z nb, fun _ => ?_⟩, fun z => by omega⟩
          intro y3 hy3
          have big : 400 < B 0 179 + y3 := by rw [hy3]; omega
          refine ⟨fun _ => ?_, fun _ => ⟨⟨fA.st (by unfold Fkh; omega), fB⟩, .inl ⟨rfl, rh_set_s _ _ _ _, k0, (by omega)⟩⟩, fun z => absurd (.inr big) z⟩
          rw [hy3]
          exact ⟨by omega, by omega⟩
        rw [rh_if_t rm]
        refine rx2.gl (vgX1_findKnown_131 hh (c_must hh (by decide) _) (LE0 rfl)) ?_
        refine rx2.l (rX1_findKnown_134 hh _ _ _ _ _ ?_)
        rcases hw with rfl | rfl
        · rw [rh_if_f (show ¬ (0 : Int) ≠ 0 by decide)] at rm
          refine ⟨fun z => absurd rfl z, fun _ => ?_⟩
          intro Z hZ
          rw [hZ, i2b_e ⟨by omega, by omega⟩]
          refine ⟨⟨by omega, by omega⟩, ⟨by omega, by omega⟩, ⟨by omega, by omega⟩, ?_⟩
          refine rx2.r (rX32_readKnown_9 hm _ _ _ ?_)
          rw [eB]
          refine ⟨fun _ => ⟨⟨by omega, by omega⟩, fun z => absurd z nb, fun _ => ?_⟩, fun z => by omega⟩
          intro y3 hy3
          rw [rh_if_f (show ¬ (0 : Int) ≠ 0 by decide)] at hy3
          rw [hy3]
          refine ⟨fun _ => ⟨by omega, by omega⟩, fun z => absurd z (fun q => q.elim (fun a => a sgB) (fun a => by omega)), fun _ => ⟨fun z => absurd rfl z, fun _ => ?_⟩⟩
          intro Z2 hZ2
          rw [hZ2]
          refine ⟨⟨by omega, by omega⟩, ?_⟩
          intro M2 hM2
          have ad := K.add (c := A 2 k) ⟨by omega, by omega⟩ (by omega) rfl (B' := rh_set M2 0 179 (M2 0 179 + 1)) (by rw [hM2, eAB])
          refine ⟨?_, ⟨by omega, by omega⟩, ih (k + 1) 0 _ _ (by omega) (by omega) (.inl rfl) ad.1 ((fA.st (by unfold Fkh; omega)).st (by unfold Fkh; omega)) (by rw [hM2]; exact (fB.st (by unfold Fkm; omega)).st (by unfold Fkm; omega))⟩
          rw [hM2, rh_set_a (by decide)]
          exact ⟨by omega, by omega⟩
        · rw [rh_if_t (show (1 : Int) ≠ 0 by decide)] at rm
          refine ⟨fun _ => ⟨⟨by omega, by omega⟩, ⟨by omega, by omega⟩, ⟨by omega, by omega⟩, ?_⟩, fun z => absurd (show (1 : Int) ≠ 0 by decide) z⟩
          intro M1 hM1
          have a1 := K.add (c := 32) ⟨by omega, by omega⟩ (by omega) hM1 rfl
          have e1 : M1 0 32 = A 0 32 + 1 := by rw [hM1, rh_set_a (by decide), rh_set_s]
          rw [i2b_e ⟨by omega, by omega⟩, e1]
          refine ⟨⟨by omega, by omega⟩, ⟨by omega, by omega⟩, ⟨by omega, by omega⟩, ?_⟩
          refine rx2.r (rX32_readKnown_9 hm _ _ _ ?_)
          rw [eB]
          refine ⟨fun _ => ⟨⟨by omega, by omega⟩, fun z => absurd z nb, fun _ => ?_⟩, fun z => by omega⟩
          intro y3 hy3
          rw [rh_if_t (show (1 : Int) ≠ 0 by decide)] at hy3
          rw [hy3]
          refine ⟨fun _ => ⟨by omega, by omega⟩, fun z => absurd z (fun q => q.elim (fun a => a sgB) (fun a => by omega)), fun _ => ⟨fun _ => ⟨⟨by omega, by omega⟩, ?_⟩, fun z => absurd (show (1 : Int) ≠ 0 by decide) z⟩⟩
          intro N1 hN1
          refine ⟨by rw [hN1, rh_set_a (by decide)]; exact ⟨by omega, by omega⟩, ?_⟩
          intro N2 hN2
          rw [hN1] at hN2
          rw [← hN2] at a1
          refine ⟨by rw [a1.2]; exact ⟨by omega, by omega⟩, ?_⟩
          intro N3 hN3
          have a2 := a1.1.add (c := A 2 k) ⟨by omega, by omega⟩ (by rw [a1.2]; omega) rfl (B' := rh_set N3 0 179 (N3 0 179 + 1)) (by rw [hN3, eAB])
          rw [e1] at a2
          have g2 : frx Fkm Mm N2 := by rw [hN2]; exact (fB.st (by unfold Fkm; omega)).st (by unfold Fkm; omega)
          have f1 : frx Fkh Mh M1 := by rw [hM1]; exact (fA.st (by unfold Fkh; omega)).st (by unfold Fkh; omega)
          refine ⟨?_, ⟨by omega, by omega⟩, ih (k + 1) 0 _ _ (by omega) (by omega) (.inl rfl) a2.1 ((f1.st (by unfold Fkh; omega)).st (by unfold Fkh; omega)) (by rw [hN3]; exact (g2.st (by unfold Fkm; omega)).st (by unfold Fkm; omega))⟩
          rw [hN3, rh_set_a (by decide), a1.2]
          exact ⟨by omega, by omega⟩
  refine rx2.l (rX1_findKnown_0 hh _ ?_)
  rw [t1]
  refine rx2.r (rX32_readKnown_0 hm _ ?_)
  refine key n.toNat 0 0 _ _ (by omega) (by omega) (.inl rfl) ⟨by rw [rh_set_s, rh_set_s], by rw [rh_set_s]; decide, fun t a b => by rw [rh_set_s] at b; omega⟩ ((frx.rf.st (by unfold Fkh; omega)).st (by unfold Fkh; omega)) (frx.rf.st (by unfold Fkm; omega))
/-- the words that a reading shows: their sizes, their signs -/
noncomputable def wsz (M : rhM) (k : Int) : Int := rh_if (M 123 k = 1) (M 128 k) (M 125 (4 * k))
noncomputable def wch (M : rhM) (k t : Int) : Int := rh_if (M 123 k = 1) (M 127 (12 * k + t)) (M 126 (48 * k + t))
def Wds (M : rhM) (r n : Int) : Prop := ∀ j, 0 ≤ j → j < n → (1 ≤ wsz M (80 * r + j) ∧ wsz M (80 * r + j) ≤ 12) ∧ ∀ t, 0 ≤ t → t < wsz M (80 * r + j) → 33 ≤ wch M (80 * r + j) t ∧ wch M (80 * r + j) t ≤ 126
theorem Wds.of {Mh Mm : rhM} (R : RdA Mh Mm) (C : RdC Mh Mm) {r : Int} (r0 : 0 ≤ r) (r1 : r < 4) (h : Mm 113 r ≠ 0) : Wds Mm r (Mm 114 r) := by
  intro j j0 j1
  obtain ⟨-, -, b3⟩ := (R r r0 r1).2 h
  obtain ⟨-, w2, -⟩ := b3 j j0 j1
  obtain ⟨-, s2, -⟩ := C r r0 r1 h j j0 j1
  obtain ⟨w1, w2⟩ := (w2 0 (by decide) (by have := (b3 j j0 j1).1; omega)).2
  unfold wsz wch
  by_cases q : Mm 123 (80 * r + j) = 1
  · rw [rh_if_t q]
    obtain ⟨-, u1, u2⟩ := s2 q
    refine ⟨u1, fun t t0 t1 => ?_⟩
    rw [rh_if_t q]
    exact (u2 t t0 t1).2
  · rw [rh_if_f q]
    rw [show 4 * (80 * r + j) + 0 = 4 * (80 * r + j) by omega] at w1 w2
    refine ⟨w1.2, fun t t0 t1 => ?_⟩
    rw [rh_if_f q, show 48 * (80 * r + j) + t = 12 * (4 * (80 * r + j)) + t by omega]
    exact (w2 t t0 t1).2
/-- the plain text: where the words begin; what lies between them -/
def Pln (M B : rhM) (p : Int → Int) (r n : Int) : Prop := p 0 = 0 ∧ ∀ j, 0 ≤ j → j < n → (p j + wsz M (80 * r + j) + 1 ≤ p (j + 1) ∧ p (j + 1) ≤ p j + wsz M (80 * r + j) + 2) ∧ (0 ≤ p j ∧ p j ≤ 14 * j ∧ p (j + 1) ≤ p n) ∧ (∀ t, 0 ≤ t → t < wsz M (80 * r + j) → B 140 (p j + t) = wch M (80 * r + j) t) ∧ ∀ q, p j + wsz M (80 * r + j) ≤ q → q < p (j + 1) → B 140 q = 10 ∨ B 140 q = 32
/-- one more sign -/
def apg (c f : Int) (B : rhM) (v : Int) : rhM := rh_set (rh_set B c (B 0 f) v) 0 f (rh_set B c (B 0 f) v 0 f + 1)
theorem apg_p {c f : Int} (hc : c ≠ 0) {B : rhM} {v : Int} : apg c f B v 0 f = B 0 f + 1 := by
  unfold apg
  rw [rh_set_s, rh_set_a (Ne.symm hc)]
theorem apg_s {c f : Int} (hc : c ≠ 0) {B : rhM} {v : Int} : apg c f B v c (B 0 f) = v := by
  unfold apg
  rw [rh_set_a hc, rh_set_s]
theorem apg_o {c f : Int} {B : rhM} {v a j : Int} (h : a = c → j ≠ B 0 f) (h2 : a = 0 → j ≠ f) : apg c f B v a j = B a j := by
  unfold apg
  have e1 : rh_set (rh_set B c (B 0 f) v) 0 f (rh_set B c (B 0 f) v 0 f + 1) a j = rh_set B c (B 0 f) v a j := by
    by_cases e : a = 0
    · exact rh_set_j (h2 e)
    · exact rh_set_a e
  rw [e1]
  by_cases e : a = c
  · exact rh_set_j (h e)
  · exact rh_set_a e
def Fpl (c j : Int) : Prop := c = 140 ∨ (c = 0 ∧ j = 177)
def Fow (c j : Int) : Prop := c = 142 ∨ (c = 0 ∧ j = 181)
theorem wsz_f {M B : rhM} {F : Int → Int → Prop} (f : frx F M B) (h : ∀ c j, 123 ≤ c → c ≤ 128 → ¬ F c j) (k : Int) : wsz B k = wsz M k ∧ ∀ t, wch B k t = wch M k t := by
  unfold wsz wch
  rw [f 123 _ (h _ _ (by decide) (by decide)), f 128 _ (h _ _ (by decide) (by decide)), f 125 _ (h _ _ (by decide) (by decide))]
  refine ⟨rfl, fun t => ?_⟩
  rw [f 127 _ (h _ _ (by decide) (by decide)), f 126 _ (h _ _ (by decide) (by decide))]
theorem m_plC (hm : rh_ms wm) {r j n p : Int} (hr : 0 ≤ r ∧ r < 4) (hj : 0 ≤ j ∧ j < 80) (hn : n ≤ 12) (hp : 0 ≤ p ∧ p ≤ 1120) : ∀ (u : Nat) (t : Int) (B : rhM), t + u = n → 0 ≤ t → wsz B (80 * r + j) = n → B 0 177 = p + t → ∃ B', eS wm YX32_plainText 1 27 [(0, 2, 0), (1, 0, r), (2, 0, j), (3, 0, 80 * r + j), (4, 0, t)] [] B 27 [(0, 2, 0), (1, 0, r), (2, 0, j), (3, 0, 80 * r + j), (4, 0, n)] [] B' ∧ B' 0 177 = p + n ∧ (∀ s, t ≤ s → s < n → B' 140 (p + s) = wch B (80 * r + j) s) ∧ (∀ q, q < p + t → B' 140 q = B 140 q) ∧ frx Fpl B B' := by
  intro u
  induction u with
  | zero =>
    intro t B ht t0 hw hb
    have e : t = n := by omega
    rw [e] at hb ⊢
    exact ⟨B, eS.rf, hb, fun s s0 s1 => by omega, fun _ _ => rfl, frx.rf⟩
  | succ u ih =>
    intro t B ht t0 hw hb
    obtain ⟨v, hv⟩ : ∃ v, v = wch B (80 * r + j) t := ⟨_, rfl⟩
    have f0 : frx Fpl B (apg 140 177 B v) := fun a i h => apg_o (fun e => absurd (.inl e) h) (fun e e2 => h (.inr ⟨e, e2⟩))
    have w0 := wsz_f f0 (fun c i c0 c1 => by unfold Fpl; omega) (80 * r + j)
    obtain ⟨B', E, b1, b2, b3, b4⟩ := ih (t + 1) (apg 140 177 B v) (by omega) (by omega) (by rw [w0.1]; exact hw) (by rw [apg_p (by decide), hb]; omega)
    refine ⟨B', eS.of (fun P HP => ?_), b1, fun s s0 s1 => ?_, fun q hq => ?_, f0.tr b4⟩
    · refine rh1.of (rX32_plainText_27 hm _ _ _ _ _ ?_)
      have hw' : rh_if (B 123 (80 * r + j) = 1) (B 128 (80 * r + j)) (B 125 (4 * (80 * r + j))) = n := hw
      have hv' : rh_if (B 123 (80 * r + j) = 1) (B 127 (12 * (80 * r + j) + t)) (B 126 (48 * (80 * r + j) + t)) = v := hv.symm
      rw [hw', hv']
      refine ⟨⟨by omega, by omega⟩, fun _ => ⟨by omega, by omega⟩, fun _ => ⟨by omega, by omega⟩, fun _ => ⟨⟨by omega, by omega⟩, fun _ => ⟨by omega, by omega⟩, fun _ => ⟨by omega, by omega⟩, by rw [hb]; exact ⟨by omega, by omega⟩, ?_, ⟨by omega, by omega⟩, rh1.s E HP⟩, fun z => by omega⟩
      rw [rh_set_a (by decide), hb]
      exact ⟨by omega, by omega⟩
    · by_cases e : s = t
      · rw [e, b3 _ (by omega), ← hv, ← hb, apg_s (by decide)]
      · rw [b2 s (by omega) (by omega), w0.2]
    · rw [b3 q (by omega)]
      exact apg_o (fun _ => by omega) (fun z => by omega)
theorem m_plW (hm : rh_ms wm) {r j n p N : Int} (hr : 0 ≤ r ∧ r < 4) (hN : N ≤ 80) (hj : 0 ≤ j ∧ j < N) (hn : 1 ≤ n ∧ n ≤ 12) (hp : 0 ≤ p ∧ p ≤ 1120) (B : rhM) (hw : wsz B (80 * r + j) = n) (hb : B 0 177 = p) (h4 : B 114 r = N) : ∃ B' p', eS wm YX32_plainText 1 7 [(0, 2, 0), (1, 0, r), (2, 0, j)] [] B 7 [(0, 2, 0), (1, 0, r), (2, 0, j + 1)] [] B' ∧ (p + n + 1 ≤ p' ∧ p' ≤ p + n + 2) ∧ B' 0 177 = p' ∧ (∀ s, 0 ≤ s → s < n → B' 140 (p + s) = wch B (80 * r + j) s) ∧ (∀ q, q < p → B' 140 q = B 140 q) ∧ (∀ q, p + n ≤ q → q < p' → B' 140 q = 10 ∨ B' 140 q = 32) ∧ frx Fpl B B' := by
  obtain ⟨B1, E, b1, b2, b3, b4⟩ := m_plC hm (r := r) (j := j) (n := n) (p := p) hr ⟨by omega, by omega⟩ (by omega) hp n.toNat 0 B (by omega) (by omega) hw (by rw [hb]; omega)
  have w1 := wsz_f b4 (fun c i c0 c1 => by unfold Fpl; omega) (80 * r + j)
  have hw1 : rh_if (B1 123 (80 * r + j) = 1) (B1 128 (80 * r + j)) (B1 125 (4 * (80 * r + j))) = n := by rw [← hw]; exact w1.1
  have h41 : B1 114 r = N := by rw [b4 114 r (by unfold Fpl; omega)]; exact h4
  have fa : ∀ (X : rhM) (v : Int), frx Fpl X (apg 140 177 X v) := fun X v a i h => apg_o (fun e => absurd (.inl e) h) (fun e e2 => h (.inr ⟨e, e2⟩))
  have one : ∀ v, (v = 10 ∨ v = 32) → ∀ q, q < p + n + 1 → apg 140 177 B1 v 140 q = B1 140 q ∨ (q = p + n ∧ apg 140 177 B1 v 140 q = v) := fun v hv q hq => by
    by_cases e : q = p + n
    · exact .inr ⟨e, by rw [e, ← b1, apg_s (by decide)]⟩
    · exact .inl (apg_o (fun _ => by omega) (fun z => by omega))
  have fin : ∀ (B' : rhM) (v : Int), (v = 10 ∨ v = 32) → (B' = apg 140 177 B1 v ∨ B' = apg 140 177 (apg 140 177 B1 v) 10) → eS wm YX32_plainText 1 7 [(0, 2, 0), (1, 0, r), (2, 0, j)] [] B 7 [(0, 2, 0), (1, 0, r), (2, 0, j + 1)] [] B' → ∃ B' p', eS wm YX32_plainText 1 7 [(0, 2, 0), (1, 0, r), (2, 0, j)] [] B 7 [(0, 2, 0), (1, 0, r), (2, 0, j + 1)] [] B' ∧ (p + n + 1 ≤ p' ∧ p' ≤ p + n + 2) ∧ B' 0 177 = p' ∧ (∀ s, 0 ≤ s → s < n → B' 140 (p + s) = wch B (80 * r + j) s) ∧ (∀ q, q < p → B' 140 q = B 140 q) ∧ (∀ q, p + n ≤ q → q < p' → B' 140 q = 10 ∨ B' 140 q = 32) ∧ frx Fpl B B' := by
    intro B' v hv hB EE
    have a1 : apg 140 177 B1 v 0 177 = p + n + 1 := by rw [apg_p (by decide), b1]
    have s1 : ∀ q, q < p + n → apg 140 177 B1 v 140 q = B1 140 q := fun q hq => apg_o (fun _ => by omega) (fun z => by omega)
    have s2 : apg 140 177 B1 v 140 (p + n) = v := by rw [← b1, apg_s (by decide)]
    rcases hB with rfl | rfl
    · refine ⟨_, p + n + 1, EE, ⟨by omega, by omega⟩, a1, fun s s0 s1' => ?_, fun q hq => ?_, fun q q0 q1 => ?_, b4.tr (fa _ _)⟩
      · rw [s1 _ (by omega)]; exact b2 s s0 s1'
      · rw [s1 _ (by omega)]; exact b3 q (by omega)
      · rw [show q = p + n by omega, s2]; exact hv
    · have s3 : ∀ q, q < p + n + 1 → apg 140 177 (apg 140 177 B1 v) 10 140 q = apg 140 177 B1 v 140 q := fun q hq => apg_o (fun _ => by omega) (fun z => by omega)
      have s4 : apg 140 177 (apg 140 177 B1 v) 10 140 (p + n + 1) = 10 := by rw [← a1, apg_s (by decide)]
      refine ⟨_, p + n + 2, EE, ⟨by omega, by omega⟩, by rw [apg_p (by decide), a1]; omega, fun s s0 s1' => ?_, fun q hq => ?_, fun q q0 q1 => ?_, (b4.tr (fa _ _)).tr (fa _ _)⟩
      · rw [s3 _ (by omega), s1 _ (by omega)]; exact b2 s s0 s1'
      · rw [s3 _ (by omega), s1 _ (by omega)]; exact b3 q (by omega)
      · by_cases e : q = p + n
        · rw [s3 _ (by omega), e, s2]; exact hv
        · rw [show q = p + n + 1 by omega, s4]; exact .inl rfl
  have start : ∀ P : Int → rhM → Prop, rh1 wm YX32_plainText 1 27 [(0, 2, 0), (1, 0, r), (2, 0, j), (3, 0, 80 * r + j), (4, 0, n)] [] B1 P → rh1 wm YX32_plainText 1 7 [(0, 2, 0), (1, 0, r), (2, 0, j)] [] B P := fun P HP => by
    refine rh1.of (rX32_plainText_7 hm _ _ _ ?_)
    rw [h4]
    exact ⟨⟨by omega, by omega⟩, fun _ => ⟨⟨by omega, by omega⟩, rh1.s E HP⟩, fun z => by omega⟩
  obtain ⟨y, hy⟩ : ∃ y, y = rh_if (j + 1 = B1 114 r) (1 : Int) 0 := ⟨_, rfl⟩
  have y0 : y = 0 → j + 1 < N := fun z => by
    by_cases e : j + 1 = B1 114 r
    · rw [rh_if_t e] at hy; omega
    · omega
  have go : ∀ P : Int → rhM → Prop, ((((y ≠ 0) ∨ (B1 119 (80 * r + j + 1) ≠ B1 119 (80 * r + j))) → ((y ≠ 0) ∨ (apg 140 177 B1 10 120 (80 * r + j + 1) ≠ apg 140 177 B1 10 120 (80 * r + j))) → rh1 wm YX32_plainText 1 7 [(0, 2, 0), (1, 0, r), (2, 0, j + 1)] [] (apg 140 177 (apg 140 177 B1 10) 10) P) ∧ (((y ≠ 0) ∨ (B1 119 (80 * r + j + 1) ≠ B1 119 (80 * r + j))) → ¬ ((y ≠ 0) ∨ (apg 140 177 B1 10 120 (80 * r + j + 1) ≠ apg 140 177 B1 10 120 (80 * r + j))) → rh1 wm YX32_plainText 1 7 [(0, 2, 0), (1, 0, r), (2, 0, j + 1)] [] (apg 140 177 B1 10) P) ∧ (¬ ((y ≠ 0) ∨ (B1 119 (80 * r + j + 1) ≠ B1 119 (80 * r + j))) → rh1 wm YX32_plainText 1 7 [(0, 2, 0), (1, 0, r), (2, 0, j + 1)] [] (apg 140 177 B1 32) P)) → rh1 wm YX32_plainText 1 7 [(0, 2, 0), (1, 0, r), (2, 0, j)] [] B P := fun P H => start P (by
    have a1 : apg 140 177 B1 10 0 177 = p + n + 1 := by rw [apg_p (by decide), b1]
    refine rh1.of (rX32_plainText_27 hm _ _ _ _ _ ?_)
    rw [hw1]
    refine ⟨⟨by omega, by omega⟩, fun _ => ⟨by omega, by omega⟩, fun _ => ⟨by omega, by omega⟩, fun z => by omega, fun _ => ⟨⟨by omega, by omega⟩, ⟨by omega, by omega⟩, ?_⟩⟩
    rw [← hy]
    rintro _ rfl
    refine ⟨fun z => by have := y0 z; exact ⟨by omega, by omega⟩, fun z => by have := y0 z; exact ⟨by omega, by omega⟩, fun q1 => ⟨by rw [b1]; exact ⟨by omega, by omega⟩, by rw [rh_set_a (by decide), b1]; exact ⟨by omega, by omega⟩, fun z => by have := y0 z; exact ⟨by omega, by omega⟩, fun z => by have := y0 z; exact ⟨by omega, by omega⟩, fun q2 => ?_, fun q2 => ⟨⟨by omega, by omega⟩, H.2.1 q1 q2⟩⟩, fun q1 => ⟨by rw [b1]; exact ⟨by omega, by omega⟩, by rw [rh_set_a (by decide), b1]; exact ⟨by omega, by omega⟩, ⟨by omega, by omega⟩, H.2.2 q1⟩⟩
    intro X hX
    have eX : X = apg 140 177 B1 10 := hX
    rw [eX]
    refine ⟨by rw [a1]; exact ⟨by omega, by omega⟩, by rw [rh_set_a (by decide), a1]; exact ⟨by omega, by omega⟩, ⟨by omega, by omega⟩, H.1 q1 q2⟩)
  by_cases q1 : (y ≠ 0) ∨ (B1 119 (80 * r + j + 1) ≠ B1 119 (80 * r + j))
  · by_cases q2 : (y ≠ 0) ∨ (apg 140 177 B1 10 120 (80 * r + j + 1) ≠ apg 140 177 B1 10 120 (80 * r + j))
    · exact fin _ 10 (.inl rfl) (.inr rfl) (eS.of (fun P HP => go P ⟨fun _ _ => HP, fun _ z => absurd q2 z, fun z => absurd q1 z⟩))
    · exact fin _ 10 (.inl rfl) (.inl rfl) (eS.of (fun P HP => go P ⟨fun _ z => absurd z q2, fun _ _ => HP, fun z => absurd q1 z⟩))
  · exact fin _ 32 (.inr rfl) (.inl rfl) (eS.of (fun P HP => go P ⟨fun z => absurd z q1, fun z => absurd z q1, fun _ => HP⟩))
theorem m_plain (hm : rh_ms wm) {r N : Int} (hr : 0 ≤ r ∧ r < 4) (hN : 0 ≤ N ∧ N ≤ 80) (M : rhM) (h4 : M 114 r = N) (W : Wds M r N) : ∃ B p, eC wm YX32_plainText 1 [(2, 0), (0, r)] M 0 B ∧ Pln M B p r N ∧ B 0 177 = p N ∧ p N ≤ 14 * N ∧ frx Fpl M B := by
  have key : ∀ (u : Nat), (u : Int) ≤ N → ∃ (B : rhM) (p : Int → Int), eS wm YX32_plainText 1 7 [(0, 2, 0), (1, 0, r), (2, 0, 0)] [] (rh_set M 0 177 0) 7 [(0, 2, 0), (1, 0, r), (2, 0, (u : Int))] [] B ∧ (p 0 = 0 ∧ ∀ j, 0 ≤ j → j < (u : Int) → (p j + wsz M (80 * r + j) + 1 ≤ p (j + 1) ∧ p (j + 1) ≤ p j + wsz M (80 * r + j) + 2) ∧ (0 ≤ p j ∧ p j ≤ 14 * j ∧ p (j + 1) ≤ p u) ∧ (∀ t, 0 ≤ t → t < wsz M (80 * r + j) → B 140 (p j + t) = wch M (80 * r + j) t) ∧ ∀ q, p j + wsz M (80 * r + j) ≤ q → q < p (j + 1) → B 140 q = 10 ∨ B 140 q = 32) ∧ B 0 177 = p u ∧ (0 ≤ p u ∧ p u ≤ 14 * u) ∧ frx Fpl M B := by
    intro u
    induction u with
    | zero =>
      intro _
      exact ⟨rh_set M 0 177 0, fun _ => 0, eS.rf, ⟨rfl, fun j j0 j1 => by omega⟩, rh_set_s _ _ _ _, by decide, frx.rf.st (.inr ⟨rfl, rfl⟩)⟩
    | succ u ih =>
      intro hu
      obtain ⟨B, p, E, ⟨p0, P⟩, b1, b2, b3⟩ := ih (by omega)
      obtain ⟨W1, W2⟩ := W u (by omega) (by omega)
      have w := wsz_f b3 (fun c i c0 c1 => by unfold Fpl; omega) (80 * r + u)
      obtain ⟨B', p', E', c1, c2, c3, c4, c5, c6⟩ := m_plW hm (r := r) (j := u) (n := wsz M (80 * r + u)) (p := p u) (N := N) hr hN.2 ⟨by omega, by omega⟩ W1 ⟨by omega, by omega⟩ B w.1 b1 (by rw [b3 114 r (by unfold Fpl; omega)]; exact h4)
      refine ⟨B', fun i => if i = (u : Int) + 1 then p' else p i, ?_, ⟨?_, fun j j0 j1 => ?_⟩, ?_, ?_, b3.tr c6⟩
      · have := E.tr E'
        rwa [show ((u + 1 : Nat) : Int) = (u : Int) + 1 by omega]
      · show (if (0 : Int) = (u : Int) + 1 then p' else p 0) = 0
        rw [if_neg (by omega)]; exact p0
      · show ((if j = (u : Int) + 1 then p' else p j) + _ + 1 ≤ (if j + 1 = (u : Int) + 1 then p' else p (j + 1)) ∧ (if j + 1 = (u : Int) + 1 then p' else p (j + 1)) ≤ (if j = (u : Int) + 1 then p' else p j) + _ + 2) ∧ (0 ≤ (if j = (u : Int) + 1 then p' else p j) ∧ (if j = (u : Int) + 1 then p' else p j) ≤ 14 * j ∧ (if j + 1 = (u : Int) + 1 then p' else p (j + 1)) ≤ (if ((u + 1 : Nat) : Int) = (u : Int) + 1 then p' else p ((u + 1 : Nat) : Int))) ∧ (∀ t, 0 ≤ t → t < wsz M (80 * r + j) → B' 140 ((if j = (u : Int) + 1 then p' else p j) + t) = wch M (80 * r + j) t) ∧ ∀ q, (if j = (u : Int) + 1 then p' else p j) + wsz M (80 * r + j) ≤ q → q < (if j + 1 = (u : Int) + 1 then p' else p (j + 1)) → B' 140 q = 10 ∨ B' 140 q = 32
        rw [if_neg (show ¬ j = (u : Int) + 1 by omega), if_pos (show ((u + 1 : Nat) : Int) = (u : Int) + 1 by omega)]
        by_cases e : j = (u : Int)
        · rw [if_pos (show j + 1 = (u : Int) + 1 by omega), e]
          refine ⟨c1, ⟨b2.1, b2.2, Int.le_refl _⟩, fun t t0 t1 => ?_, c5⟩
          rw [c3 t t0 t1, w.2]
        · rw [if_neg (show ¬ j + 1 = (u : Int) + 1 by omega)]
          obtain ⟨y1, y2, y3, y4⟩ := P j j0 (by omega)
          refine ⟨y1, ⟨y2.1, y2.2.1, by omega⟩, fun t t0 t1 => ?_, fun q q0 q1 => ?_⟩
          · rw [c4 _ (by omega)]; exact y3 t t0 t1
          · rw [c4 _ (by omega)]; exact y4 q q0 q1
      · show B' 0 177 = (if ((u + 1 : Nat) : Int) = (u : Int) + 1 then p' else p ((u + 1 : Nat) : Int))
        rw [if_pos (by omega)]; exact c2
      · show 0 ≤ (if ((u + 1 : Nat) : Int) = (u : Int) + 1 then p' else p ((u + 1 : Nat) : Int)) ∧ (if ((u + 1 : Nat) : Int) = (u : Int) + 1 then p' else p ((u + 1 : Nat) : Int)) ≤ 14 * ((u + 1 : Nat) : Int)
        rw [if_pos (by omega)]
        omega
  obtain ⟨B, p, E, ⟨p0, P⟩, b1, b2, b3⟩ := key N.toNat (by omega)
  rw [show ((N.toNat : Nat) : Int) = N by omega] at E P b1 b2
  refine ⟨B, p, eC.of1 (rC1.of (by decide) (LE0 rfl) ?_), ⟨p0, fun j j0 j1 => ?_⟩, b1, b2.2, b3⟩
  · refine rh1.of (rX32_plainText_0 hm _ _ ?_)
    refine rh1.s E ?_
    refine rh1.of (rX32_plainText_7 hm _ _ _ ?_)
    rw [b3 114 r (by unfold Fpl; omega), h4]
    exact ⟨hr, fun z => by omega, fun _ => ⟨rfl, rfl⟩⟩
  · obtain ⟨y1, y2, y3, y4⟩ := P j j0 j1
    exact ⟨y1, y2, y3, y4⟩
theorem m_ownC (hm : rh_ms wm) {p n top : Int} {v : Int → Int} (hp : 0 ≤ p ∧ p + n ≤ top ∧ top ≤ 1200) (hv : ∀ s, 0 ≤ s → s < n → 33 ≤ v s ∧ v s ≤ 126) : ∀ (u : Nat) (t o : Int) (B : rhM), t + u = n → 0 ≤ t → (0 ≤ o ∧ o ≤ 5000 - u) → B 0 181 = o → B 0 177 = top → (∀ s, t ≤ s → s < n → B 140 (p + s) = v s) → ∃ B', eS wm YX32_readOwn 2 14 [(0, 2, 0), (2, 0, 0), (3, 0, p + t)] [] B 14 [(0, 2, 0), (2, 0, 0), (3, 0, p + n)] [] B' ∧ B' 0 181 = o + u ∧ (∀ s, t ≤ s → s < n → B' 142 (o + (s - t)) = v s) ∧ (∀ q, q < o → B' 142 q = B 142 q) ∧ frx Fow B B' := by
  intro u
  induction u with
  | zero =>
    intro t o B ht t0 ho h1 h2 hx
    have e : t = n := by omega
    rw [e]
    exact ⟨B, eS.rf, by rw [h1]; omega, fun s s0 s1 => by omega, fun _ _ => rfl, frx.rf⟩
  | succ u ih =>
    intro t o B ht t0 ho h1 h2 hx
    have vt := hv t t0 (by omega)
    have ex := hx t (by omega) (by omega)
    have f0 : frx Fow B (apg 142 181 B (v t)) := fun a i h => apg_o (fun e => absurd (.inl e) h) (fun e e2 => h (.inr ⟨e, e2⟩))
    obtain ⟨B', E, b1, b2, b3, b4⟩ := ih (t + 1) (o + 1) (apg 142 181 B (v t)) (by omega) (by omega) ⟨by omega, by omega⟩ (by rw [apg_p (by decide), h1]) (by rw [f0 0 177 (by unfold Fow; omega)]; exact h2) (fun s s0 s1 => by rw [f0 140 _ (by unfold Fow; omega)]; exact hx s (by omega) s1)
    refine ⟨B', eS.of (fun P HP => ?_), by rw [b1]; omega, fun s s0 s1 => ?_, fun q hq => ?_, f0.tr b4⟩
    · refine rh1.of (rX32_readOwn_14 hm _ _ _ ?_)
      rw [h2, ex]
      refine ⟨fun _ => ⟨⟨by omega, by omega⟩, fun z => by omega, fun _ => ⟨fun z => absurd rfl z, fun _ => ?_⟩⟩, fun z => by omega⟩
      intro Z hZ
      rw [hZ, ex, h1]
      refine ⟨⟨by omega, by omega⟩, ⟨by omega, by omega⟩, ?_⟩
      intro X hX
      have eX : rh_set X 0 181 (X 0 181 + 1) = apg 142 181 B (v t) := by rw [hX, ← h1]; rfl
      rw [eX]
      refine ⟨by rw [hX, rh_set_a (by decide), h1]; exact ⟨by omega, by omega⟩, ⟨by omega, by omega⟩, ?_⟩
      rw [show p + t + 1 = p + (t + 1) by omega]
      exact rh1.s E HP
    · by_cases e : s = t
      · rw [e, show o + (t - t) = o by omega, b3 o (by omega), ← h1, apg_s (by decide)]
      · rw [show o + (s - t) = o + 1 + (s - (t + 1)) by omega]
        exact b2 s (by omega) s1
    · rw [b3 q (by omega)]
      exact apg_o (fun _ => by omega) (fun z => by omega)
theorem m_ownS (hm : rh_ms wm) {top q' : Int} (hq' : q' ≤ top ∧ top ≤ 1200) (B : rhM) (h1 : 0 < B 0 181) (h2 : B 0 177 = top) : ∀ (u : Nat) (q x : Int), q + u = q' → 0 ≤ q → (x = 1 ∨ 0 < u) → (∀ s, q ≤ s → s < q' → B 140 s = 10 ∨ B 140 s = 32) → eS wm YX32_readOwn 2 14 [(0, 2, 0), (2, 0, x), (3, 0, q)] [] B 14 [(0, 2, 0), (2, 0, 1), (3, 0, q')] [] B := by
  intro u
  induction u with
  | zero =>
    intro q x hq q0 hx hs
    have e : q = q' := by omega
    rw [e, hx.resolve_right (by omega)]
    exact eS.rf
  | succ u ih =>
    intro q x hq q0 hx hs
    refine eS.of (fun P HP => ?_)
    refine rh1.of (rX32_readOwn_14 hm _ _ _ ?_)
    rw [h2]
    refine ⟨fun _ => ⟨⟨by omega, by omega⟩, fun _ => ?_, fun z => absurd (hs q (by omega) (by omega)) z⟩, fun z => by omega⟩
    intro y hy
    rw [rh_if_t h1] at hy
    rw [hy]
    exact ⟨⟨by omega, by omega⟩, rh1.s (ih (q + 1) 1 (by omega) (by omega) (.inl rfl) (fun s s0 s1 => hs s (by omega) s1)) HP⟩
theorem m_ownW (hm : rh_ms wm) {p n p' top b o : Int} {v : Int → Int} (hp : 0 ≤ p ∧ p + n + 1 ≤ p' ∧ p' ≤ top ∧ top ≤ 1200) (hn : 1 ≤ n ∧ n ≤ 12) (hb : b = 0 ∨ b = 1) (ho : 0 ≤ o ∧ o ≤ 3000) (hv : ∀ s, 0 ≤ s → s < n → 33 ≤ v s ∧ v s ≤ 126) (B : rhM) (h1 : B 0 181 = o) (h2 : B 0 177 = top) (hx : ∀ s, 0 ≤ s → s < n → B 140 (p + s) = v s) (hs : ∀ q, p + n ≤ q → q < p' → B 140 q = 10 ∨ B 140 q = 32) : ∃ B', eS wm YX32_readOwn 2 14 [(0, 2, 0), (2, 0, b), (3, 0, p)] [] B 14 [(0, 2, 0), (2, 0, 1), (3, 0, p')] [] B' ∧ B' 0 181 = o + b + n ∧ (∀ s, 0 ≤ s → s < n → B' 142 (o + b + s) = v s) ∧ (b = 1 → B' 142 o = 32) ∧ (∀ q, q < o → B' 142 q = B 142 q) ∧ frx Fow B B' := by
  have sep : ∀ B' : rhM, frx Fow B B' → B' 0 181 = o + b + n → eS wm YX32_readOwn 2 14 [(0, 2, 0), (2, 0, 0), (3, 0, p + n)] [] B' 14 [(0, 2, 0), (2, 0, 1), (3, 0, p')] [] B' := fun B' f h => m_ownS hm (top := top) ⟨by omega, by omega⟩ B' (by rw [h]; omega) (by rw [f 0 177 (by unfold Fow; omega)]; exact h2) (p' - (p + n)).toNat (p + n) 0 (by omega) (by omega) (.inr (by omega)) (fun s s0 s1 => by rw [f 140 s (by unfold Fow; omega)]; exact hs s s0 s1)
  rcases hb with rfl | rfl
  · obtain ⟨B', E, b1, b2, b3, b4⟩ := m_ownC hm (p := p) (n := n) (top := top) (v := v) ⟨hp.1, by omega, by omega⟩ hv n.toNat 0 o B (by omega) (by omega) ⟨by omega, by omega⟩ h1 h2 (fun s s0 s1 => hx s s0 s1)
    rw [show p + 0 = p by omega] at E
    have e1 : B' 0 181 = o + 0 + n := by rw [b1]; omega
    refine ⟨B', E.tr (sep B' b4 e1), e1, fun s s0 s1 => ?_, fun z => by omega, b3, b4⟩
    rw [show o + 0 + s = o + (s - 0) by omega]
    exact b2 s s0 s1
  · have v0 := hv 0 (by decide) (by omega)
    have x0 := hx 0 (by decide) (by omega)
    rw [show p + 0 = p by omega] at x0
    obtain ⟨B1, hB1⟩ : ∃ B1, B1 = apg 142 181 B 32 := ⟨_, rfl⟩
    have f1 : frx Fow B B1 := by rw [hB1]; exact fun a i h => apg_o (fun e => absurd (.inl e) h) (fun e e2 => h (.inr ⟨e, e2⟩))
    have p1 : B1 0 181 = o + 1 := by rw [hB1, apg_p (by decide), h1]
    have f2 : frx Fow B1 (apg 142 181 B1 (v 0)) := fun a i h => apg_o (fun e => absurd (.inl e) h) (fun e e2 => h (.inr ⟨e, e2⟩))
    obtain ⟨B', E, b1, b2, b3, b4⟩ := m_ownC hm (p := p) (n := n) (top := top) (v := v) ⟨hp.1, by omega, by omega⟩ hv (n - 1).toNat 1 (o + 2) (apg 142 181 B1 (v 0)) (by omega) (by decide) ⟨by omega, by omega⟩ (by rw [apg_p (by decide), p1]; omega) (by rw [f2 0 177 (by unfold Fow; omega), f1 0 177 (by unfold Fow; omega)]; exact h2) (fun s s0 s1 => by rw [f2 140 _ (by unfold Fow; omega), f1 140 _ (by unfold Fow; omega)]; exact hx s (by omega) s1)
    have fB : frx Fow B B' := (f1.tr f2).tr b4
    have e1 : B' 0 181 = o + 1 + n := by rw [b1]; omega
    have first : eS wm YX32_readOwn 2 14 [(0, 2, 0), (2, 0, 1), (3, 0, p)] [] B 14 [(0, 2, 0), (2, 0, 0), (3, 0, p + 1)] [] (apg 142 181 B1 (v 0)) := eS.of (fun P HP => by
      refine rh1.of (rX32_readOwn_14 hm _ _ _ ?_)
      rw [h2, x0, h1]
      refine ⟨fun _ => ⟨⟨by omega, by omega⟩, fun z => by omega, fun _ => ⟨fun _ => ⟨⟨by omega, by omega⟩, ?_⟩, fun z => absurd (show (1 : Int) ≠ 0 by decide) z⟩⟩, fun z => by omega⟩
      intro X hX
      refine ⟨by rw [hX, rh_set_a (by decide), h1]; exact ⟨by omega, by omega⟩, ?_⟩
      intro X2 hX2
      have e2 : X2 = B1 := by rw [hX2, hX, hB1, ← h1]; rfl
      rw [e2, p1]
      have x1 : B1 140 p = v 0 := by rw [f1 140 p (by unfold Fow; omega)]; exact x0
      rw [x1]
      refine ⟨⟨by omega, by omega⟩, ⟨by omega, by omega⟩, ?_⟩
      intro X3 hX3
      have e3 : rh_set X3 0 181 (X3 0 181 + 1) = apg 142 181 B1 (v 0) := by rw [hX3, ← p1]; rfl
      rw [e3]
      exact ⟨by rw [hX3, rh_set_a (by decide), p1]; exact ⟨by omega, by omega⟩, ⟨by omega, by omega⟩, HP⟩)
    refine ⟨B', (first.tr E).tr (sep B' fB e1), e1, fun s s0 s1 => ?_, fun _ => ?_, fun q hq => ?_, fB⟩
    · by_cases e : s = 0
      · rw [e, show o + 1 + 0 = o + 1 by omega, b3 _ (by omega), ← p1, apg_s (by decide)]
      · rw [show o + 1 + s = o + 2 + (s - 1) by omega]
        exact b2 s (by omega) s1
    · rw [b3 _ (by omega), apg_o (fun _ => by omega) (fun z => by omega), hB1, ← h1, apg_s (by decide)]
    · rw [b3 _ (by omega), apg_o (fun _ => by omega) (fun z => by omega), hB1]
      exact apg_o (fun _ => by omega) (fun z => by omega)
/-- the house's word of a reading: its row and place -/
theorem h_row (hh : rh_hs wh) {Mh Mm : rhM} (R : RdA Mh Mm) (Q : RdB Mh Mm) (C : RdC Mh Mm) {r j : Int} (hr : 0 ≤ r ∧ r < 4) (hw : Mm 113 r ≠ 0) (hj : 0 ≤ j ∧ j < Mm 114 r) : ∃ x a m, rh_bl wh 4 x m ∧ (563 ≤ x ∧ x + 2 ≤ 634) ∧ (0 ≤ a ∧ a < m ∧ m ≤ 320) ∧ x = rh_if (Mh (563 + 18 * r + 11) j = 1) (563 + 18 * r + 12) (563 + 18 * r + 3) ∧ a = rh_if (Mh (563 + 18 * r + 11) j = 1) j (4 * j) ∧ Mh (x + 2) a = wsz Mm (80 * r + j) ∧ ∀ t, 0 ≤ t → t < wsz Mm (80 * r + j) → Mh (x + 1) (12 * a + t) = wch Mm (80 * r + j) t := by
  obtain ⟨hT, hS, -⟩ := hs_rdR hh hr.1 hr.2
  obtain ⟨-, b2, b3⟩ := (R r hr.1 hr.2).2 hw
  obtain ⟨w0, w2, -⟩ := b3 j hj.1 hj.2
  obtain ⟨-, s2, -⟩ := C r hr.1 hr.2 hw j hj.1 hj.2
  obtain ⟨-, -, -, y6, -⟩ := Q r hr.1 hr.2 hw j hj.1 hj.2
  obtain ⟨w1, w2⟩ := (w2 0 (by decide) (by omega)).2
  unfold wsz wch
  rw [y6]
  by_cases q : Mm 123 (80 * r + j) = 1
  · obtain ⟨u0, u1, u2⟩ := s2 q
    refine ⟨_, _, 80, hS, ⟨by omega, by omega⟩, ⟨by omega, by omega⟩, (rh_if_t q).symm, (rh_if_t q).symm, ?_, fun t t0 t1 => ?_⟩
    · rw [rh_if_t q, show 563 + 18 * r + 12 + 2 = 563 + 18 * r + 14 by omega]; exact u0
    · rw [rh_if_t q] at t1
      rw [rh_if_t q, show 563 + 18 * r + 12 + 1 = 563 + 18 * r + 13 by omega]
      exact (u2 t t0 t1).1
  · rw [show 4 * (80 * r + j) + 0 = 4 * (80 * r + j) by omega, show 4 * j + 0 = 4 * j by omega] at w1 w2
    refine ⟨_, _, 320, hT, ⟨by omega, by omega⟩, ⟨by omega, by omega⟩, (rh_if_f q).symm, (rh_if_f q).symm, ?_, fun t t0 t1 => ?_⟩
    · rw [rh_if_f q, show 563 + 18 * r + 3 + 2 = 563 + 18 * r + 5 by omega]; exact w1.1
    · rw [rh_if_f q] at t1
      rw [rh_if_f q, show 563 + 18 * r + 3 + 1 = 563 + 18 * r + 4 by omega, show 48 * (80 * r + j) + t = 12 * (4 * (80 * r + j)) + t by omega]
      exact (w2 t t0 t1).1
theorem hs_by245 (hh : rh_hs wh) : rh_ar wh 245 .byte 400 := rh_hs_ar hh 245 (by decide) rfl
def Foh (c j : Int) : Prop := c = 245 ∨ (c = 0 ∧ j = 34)
/-- the house's own text: one word -/
theorem h_ownW (hh : rh_hs wh) {Mh Mm A : rhM} (R : RdA Mh Mm) (Q : RdB Mh Mm) (C : RdC Mh Mm) {r j o e : Int} (hr : 0 ≤ r ∧ r < 4) (hw : Mm 113 r ≠ 0) (hj : 0 ≤ j ∧ j < Mm 114 r) (W : 1 ≤ wsz Mm (80 * r + j) ∧ wsz Mm (80 * r + j) ≤ 12) (f : ∀ c i, 563 ≤ c → A c i = Mh c i) (ho : A 0 34 = o) (hob : 0 ≤ o ∧ o ≤ 400) (he : e = rh_if (0 < j) (1 : Int) 0) :
    (400 < o + e + wsz Mm (80 * r + j) → ∀ P : Int → rhM → Prop, P 0 A → rh1 wh YX1_findOwn 1 7 [(0, 2, 0), (1, 2, 563 + 18 * r), (2, 0, j)] [] A P) ∧ (o + e + wsz Mm (80 * r + j) ≤ 400 → ∃ A', eS wh YX1_findOwn 1 7 [(0, 2, 0), (1, 2, 563 + 18 * r), (2, 0, j)] [] A 7 [(0, 2, 0), (1, 2, 563 + 18 * r), (2, 0, j + 1)] [] A' ∧ A' 0 34 = o + e + wsz Mm (80 * r + j) ∧ (∀ t, 0 ≤ t → t < wsz Mm (80 * r + j) → A' 245 (o + e + t) = wch Mm (80 * r + j) t) ∧ (e = 1 → A' 245 o = 32) ∧ (∀ q, q < o → A' 245 q = A 245 q) ∧ frx Foh A A') := by
  have hx := hs_rd hh hr.1 hr.2
  obtain ⟨b1, b2, b3⟩ := (R r hr.1 hr.2).2 hw
  obtain ⟨x, a, m, hb, xb, ab, hxe, hae, sz, tx⟩ := h_row hh R Q C hr hw hj
  obtain ⟨n, hn⟩ : ∃ n, wsz Mm (80 * r + j) = n := ⟨_, rfl⟩
  rw [hn] at W sz tx
  rw [hn]
  have K : eC wh YX31_rowOf 0 [(2, 563 + 18 * r), (0, j)] A (rh_if (A (563 + 18 * r + 11) j = 1) (563 + 18 * r + 12) (563 + 18 * r + 3)) A := (icX31_rowOf hh).eC [563 + 18 * r, j] A rfl (fun q hq => by
    simp only [ikX31_rowOf, List.mem_cons, List.not_mem_nil, or_false] at hq
    subst hq
    exact hx) (by
    intro o ho
    simp only [ioX31_rowOf, List.mem_cons, List.not_mem_nil, or_false] at ho
    subst ho
    exact (show 0 ≤ j ∧ j < 80 from ⟨by omega, by omega⟩))
  have e1 : A (563 + 18 * r) 1 = Mm 114 r := by rw [f _ _ (by omega)]; exact b1
  have e11 : A (563 + 18 * r + 11) j = Mh (563 + 18 * r + 11) j := f _ _ (by omega)
  have eb : e = 0 ∨ e = 1 := by
    rw [he]
    by_cases q : 0 < j
    · rw [rh_if_t q]; exact .inr rfl
    · rw [rh_if_f q]; exact .inl rfl
  have sA : A (x + 2) a = n := by rw [f _ _ (by omega)]; exact sz
  have start : ∀ P : Int → rhM → Prop, rh1 wh YX1_findOwn 1 20 [(0, 2, 0), (1, 2, 563 + 18 * r), (2, 0, j)] [(2, x)] A P → rh1 wh YX1_findOwn 1 7 [(0, 2, 0), (1, 2, 563 + 18 * r), (2, 0, j)] [] A P := fun P HP => by
    refine rh1.of (rX1_findOwn_7 hh _ _ _ hx ?_)
    rw [e1]
    refine ⟨fun _ => ?_, fun z => by omega⟩
    refine rh1.s (vX1_findOwn_17 hx K (LE0 rfl)) ?_
    rw [show rh_if (A (563 + 18 * r + 11) j = 1) (563 + 18 * r + 12) (563 + 18 * r + 3) = x by rw [e11]; exact hxe.symm]
    exact HP
  refine ⟨fun big P HP => start P ?_, fun ok => ?_⟩
  · refine rh1.of (rX1_findOwn_20 hh _ _ _ _ _ hx hb ?_)
    rw [e11, ← hae, ho]
    refine ⟨⟨by omega, by omega⟩, ⟨by omega, by omega⟩, ?_⟩
    intro z1 hz1
    rw [hz1, sA, ← he]
    refine ⟨⟨by omega, by omega⟩, ?_⟩
    intro z2 hz2
    rw [hz2]
    exact ⟨⟨by omega, by omega⟩, ⟨by omega, by omega⟩, fun _ => HP, fun z => by omega⟩
  · obtain ⟨len, l1, l2, l3⟩ := bl_sg hb
    obtain ⟨A1, hA1⟩ : ∃ A1, A1 = rh_if (0 < j) (1 : Int) 0 := ⟨_, rfl⟩
    have fin : ∀ X : rhM, X 0 34 = o + e → (∀ c i, 563 ≤ c → X c i = Mh c i) → (e = 1 → X 245 o = 32) → (∀ q, q < o → X 245 q = A 245 q) → frx Foh A X → (∀ P : Int → rhM → Prop, rh1 wh YX1_findOwn 1 111 [(0, 2, 0), (1, 2, 563 + 18 * r), (2, 0, j), (3, 2, x), (4, 0, a)] [] (rh_cpy X (x + 1) (12 * a) 245 (o + e) n) P → rh1 wh YX1_findOwn 1 20 [(0, 2, 0), (1, 2, 563 + 18 * r), (2, 0, j)] [(2, x)] A P) → ∃ A', eS wh YX1_findOwn 1 7 [(0, 2, 0), (1, 2, 563 + 18 * r), (2, 0, j)] [] A 7 [(0, 2, 0), (1, 2, 563 + 18 * r), (2, 0, j + 1)] [] A' ∧ A' 0 34 = o + e + n ∧ (∀ t, 0 ≤ t → t < n → A' 245 (o + e + t) = wch Mm (80 * r + j) t) ∧ (e = 1 → A' 245 o = 32) ∧ (∀ q, q < o → A' 245 q = A 245 q) ∧ frx Foh A A' := by
      intro X x1 x2 x3 x4 x5 H
      refine ⟨rh_set (rh_cpy X (x + 1) (12 * a) 245 (o + e) n) 0 34 (o + e + n), eS.of (fun P HP => start P (H P ?_)), rh_set_s _ _ _ _, fun t t0 t1 => ?_, fun z => ?_, fun q hq => ?_, (x5.cpy (fun _ _ _ => .inl rfl)).st (.inr ⟨rfl, rfl⟩)⟩
      · refine rh1.of (rX1_findOwn_111 hh _ _ _ _ _ _ hx hb ?_)
        rw [rh_cpy_a (by decide), rh_cpy_a (by omega), x1, x2 _ _ (by omega), sz]
        refine ⟨⟨by omega, by omega⟩, ?_⟩
        rintro _ rfl
        exact ⟨⟨by omega, by omega⟩, ⟨by omega, by omega⟩, HP⟩
      · rw [rh_set_a (by decide), rh_cpy_v ⟨by omega, by omega⟩, show 12 * a + (o + e + t - (o + e)) = 12 * a + t by omega, x2 _ _ (by omega)]
        exact tx t t0 t1
      · rw [rh_set_a (by decide), rh_cpy_o (by omega)]; exact x3 z
      · rw [rh_set_a (by decide), rh_cpy_o (by omega)]; exact x4 q hq
    by_cases q : 0 < j
    · have ee : e = 1 := by rw [he, rh_if_t q]
      refine fin (rh_set (rh_set A 0 34 (o + 1)) 245 o 32) (by rw [rh_set_a (by decide), rh_set_s, ee]) (fun c i h => by rw [rh_set_a (by omega), rh_set_a (by omega)]; exact f c i h) (fun _ => rh_set_s _ _ _ _) (fun q hq => by rw [rh_set_j (by omega), rh_set_a (by decide)]) ((frx.rf.st (.inr ⟨rfl, rfl⟩)).st (.inl rfl)) (fun P HP => ?_)
      refine rh1.of (rX1_findOwn_20 hh _ _ _ _ _ hx hb ?_)
      rw [e11, ← hae, ho]
      refine ⟨⟨by omega, by omega⟩, ⟨by omega, by omega⟩, ?_⟩
      intro z1 hz1
      rw [hz1, sA, ← he]
      refine ⟨⟨by omega, by omega⟩, ?_⟩
      intro z2 hz2
      rw [hz2]
      refine ⟨⟨by omega, by omega⟩, ⟨by omega, by omega⟩, fun z => by omega, fun _ => ⟨fun _ => ⟨⟨by omega, by omega⟩, ⟨by omega, by omega⟩, ⟨by omega, by omega⟩, ?_⟩, fun z => absurd q z⟩⟩
      rintro _ rfl
      refine ⟨⟨by omega, by omega⟩, ?_⟩
      have g1 : rh_set (rh_set A 0 34 (o + 1)) 245 o 32 (x + 2) a = n := by rw [rh_set_a (by omega), rh_set_a (by omega)]; exact sA
      have g2 : rh_set (rh_set A 0 34 (o + 1)) 245 o 32 0 34 = o + e := by rw [rh_set_a (by decide), rh_set_s, ee]
      rw [g1, g2]
      exact rh1.s (vX1_findOwn_108 (ty := .byte) (tt := 1) (n0 := len) (n1 := 400) rfl rfl rfl l1 (hs_by245 hh) rfl rfl rfl (by omega) (by omega) (by omega) (by omega) (by omega) l3 (by decide) (LE0 rfl)) HP
    · have ee : e = 0 := by rw [he, rh_if_f q]
      refine fin A (by rw [ho]; omega) f (fun z => by omega) (fun _ _ => rfl) frx.rf (fun P HP => ?_)
      refine rh1.of (rX1_findOwn_20 hh _ _ _ _ _ hx hb ?_)
      rw [e11, ← hae, ho]
      refine ⟨⟨by omega, by omega⟩, ⟨by omega, by omega⟩, ?_⟩
      intro z1 hz1
      rw [hz1, sA, ← he]
      refine ⟨⟨by omega, by omega⟩, ?_⟩
      intro z2 hz2
      rw [hz2]
      refine ⟨⟨by omega, by omega⟩, ⟨by omega, by omega⟩, fun z => by omega, fun _ => ⟨fun z => absurd z q, fun _ => ?_⟩⟩
      intro Z hZ
      rw [hZ]
      refine ⟨⟨by omega, by omega⟩, ?_⟩
      rw [sA, ho]
      have HP' := HP
      rw [show o + e = o by omega] at HP'
      exact rh1.s (vX1_findOwn_108 (ty := .byte) (tt := 1) (n0 := len) (n1 := 400) rfl rfl rfl l1 (hs_by245 hh) rfl rfl rfl (by omega) (by omega) (by omega) (by omega) (by omega) l3 (by decide) (LE0 rfl)) HP'
def Own (A B : rhM) : Prop := A 0 34 = B 0 181 ∧ (0 ≤ B 0 181 ∧ B 0 181 ≤ 400) ∧ ∀ t, 0 ≤ t → t < B 0 181 → A 245 t = B 142 t ∧ 32 ≤ B 142 t ∧ B 142 t ≤ 126
/-- the model's own text: the words that are left -/
theorem m_ownR (hm : rh_ms wm) {B B1 : rhM} {p : Int → Int} {r N : Int} (hN : N ≤ 80) (W : Wds B r N) (PL : Pln B B1 p r N) (pn : p N ≤ 14 * N) (e7 : B1 0 177 = p N) : ∀ (u : Nat) (j : Int) (X : rhM), j + u = N → 0 ≤ j → (0 ≤ X 0 181 ∧ X 0 181 ≤ 13 * j) → frx Fow B1 X → ∃ X', eS wm YX32_readOwn 2 14 [(0, 2, 0), (2, 0, rh_if (0 < j) 1 0), (3, 0, p j)] [] X 14 [(0, 2, 0), (2, 0, rh_if (0 < N) 1 0), (3, 0, p N)] [] X' ∧ X 0 181 ≤ X' 0 181 ∧ frx Fow B1 X' := by
  intro u
  induction u with
  | zero =>
    intro j X hj j0 hX f
    have e : j = N := by omega
    rw [e]
    exact ⟨X, eS.rf, Int.le_refl _, f⟩
  | succ u ih =>
    intro j X hj j0 hX f
    obtain ⟨y1, y2, y3, y4⟩ := PL.2 j j0 (by omega)
    obtain ⟨W1, W2⟩ := W j j0 (by omega)
    have eb : rh_if (0 < j) (1 : Int) 0 = 0 ∨ rh_if (0 < j) (1 : Int) 0 = 1 := by
      by_cases q : 0 < j
      · exact .inr (rh_if_t q)
      · exact .inl (rh_if_f q)
    obtain ⟨X1, E, a1, a2, a3, a4, a5⟩ := m_ownW hm (p := p j) (n := wsz B (80 * r + j)) (p' := p (j + 1)) (top := p N) (b := rh_if (0 < j) 1 0) (o := X 0 181) (v := wch B (80 * r + j)) ⟨y2.1, y1.1, y2.2.2, by omega⟩ W1 eb ⟨by omega, by omega⟩ W2 X rfl (by rw [f 0 177 (by unfold Fow; omega)]; exact e7) (fun s s0 s1 => by rw [f 140 _ (by unfold Fow; omega)]; exact y3 s s0 s1) (fun q q0 q1 => by rw [f 140 _ (by unfold Fow; omega)]; exact y4 q q0 q1)
    obtain ⟨X', E', c1, c2⟩ := ih (j + 1) X1 (by omega) (by omega) (by rw [a1]; rcases eb with e | e <;> rw [e] <;> omega) (f.tr a5)
    rw [rh_if_t (show 0 < j + 1 by omega)] at E'
    refine ⟨X', E.tr E', ?_, c2⟩
    rcases eb with e | e
    · rw [e] at a1; omega
    · rw [e] at a1; omega
/-- the own texts, side by side -/
theorem t_own (hh : rh_hs wh) (hm : rh_ms wm) {Mh Mm : rhM} (R : RdA Mh Mm) (Q : RdB Mh Mm) (C : RdC Mh Mm) {r : Int} (hr : 0 ≤ r ∧ r < 4) (hw : Mm 113 r ≠ 0) {A B : rhM} {G : Int → Int → Prop} (fA : ∀ c i, 563 ≤ c → A c i = Mh c i) (fB : frx G Mm B) (hG : ∀ c j, 113 ≤ c → c ≤ 137 → ¬ G c j) :
    ∃ v A' B', eC wh YX1_findOwn 1 [(2, 0), (2, 563 + 18 * r)] A v A' ∧ eC wm YX32_readOwn 2 [(2, 0), (0, r)] B 0 B' ∧ frx Foh A A' ∧ frx (fun c j => Fpl c j ∨ Fow c j) B B' ∧ ((v = 0 ∧ 400 < B' 0 181) ∨ (v = 1 ∧ Own A' B')) := by
  have hx := hs_rd hh hr.1 hr.2
  obtain ⟨b1, b2, b3⟩ := (R r hr.1 hr.2).2 hw
  obtain ⟨N, hN⟩ : ∃ N, Mm 114 r = N := ⟨_, rfl⟩
  rw [hN] at b1 b2
  have WM := Wds.of R C hr.1 hr.2 hw
  rw [hN] at WM
  have ws := fun k => wsz_f fB (fun c i c0 c1 => hG c i (by omega) (by omega)) k
  have W : Wds B r N := fun j j0 j1 => by
    rw [(ws _).1]
    refine ⟨(WM j j0 j1).1, fun t t0 t1 => ?_⟩
    rw [(ws _).2]
    exact (WM j j0 j1).2 t t0 t1
  obtain ⟨B1, p, KP, PL, e7, pn, f1⟩ := m_plain hm (r := r) (N := N) hr b2 B (by rw [fB 114 r (hG _ _ (by decide) (by decide))]; exact hN) W
  have PLs := PL
  obtain ⟨p0, PL⟩ := PL
  have e7' : rh_set B1 0 181 0 0 177 = p N := by rw [rh_set_j (by decide)]; exact e7
  have PL' : Pln B (rh_set B1 0 181 0) p r N := ⟨p0, fun j j0 j1 => by
    obtain ⟨y1, y2, y3, y4⟩ := PL j j0 j1
    refine ⟨y1, y2, fun t t0 t1 => ?_, fun q q0 q1 => ?_⟩
    · rw [rh_set_a (by decide)]; exact y3 t t0 t1
    · rw [rh_set_a (by decide)]; exact y4 q q0 q1⟩
  obtain ⟨B2, hB2⟩ : ∃ B2, B2 = rh_set B1 0 181 0 := ⟨_, rfl⟩
  rw [← hB2] at PL' e7'
  have mend : ∀ X : rhM, frx Fow B2 X → eS wm YX32_readOwn 2 14 [(0, 2, 0), (2, 0, 0), (3, 0, p 0)] [] B2 14 [(0, 2, 0), (2, 0, rh_if (0 < N) 1 0), (3, 0, p N)] [] X → eC wm YX32_readOwn 2 [(2, 0), (0, r)] B 0 X := fun X f E => eC.of1 (rC1.of (by decide) (LE0 rfl) (by
    refine rh1.of (rX32_readOwn_0 hm _ _ ?_)
    refine rh1.s (vX32_readOwn_2 hm KP (LE0 rfl)) ?_
    refine rh1.of (rX32_readOwn_5 hm _ ?_)
    rw [← hB2]
    rw [p0] at E
    refine rh1.s E ?_
    refine rh1.of (rX32_readOwn_14 hm _ _ _ ?_)
    rw [f 0 177 (by unfold Fow; omega), e7']
    exact ⟨fun z => by omega, fun _ => ⟨rfl, rfl⟩⟩))
  have mfr : ∀ X : rhM, frx Fow B2 X → frx (fun c j => Fpl c j ∨ Fow c j) B X := fun X f => ((f1.w (fun c j h => .inl h)).tr (by rw [hB2]; exact frx.rf.st (.inr (.inr ⟨rfl, rfl⟩)))).tr (f.w (fun c j h => .inr h))
  have key : ∀ (u : Nat) (j : Int) (X Y : rhM), j + u = N → 0 ≤ j → Own X Y → Y 0 181 ≤ 13 * j → frx Foh A X → frx Fow B2 Y → ∃ v A' B', (∀ P : Int → rhM → Prop, P v A' → rh1 wh YX1_findOwn 1 7 [(0, 2, 0), (1, 2, 563 + 18 * r), (2, 0, j)] [] X P) ∧ eS wm YX32_readOwn 2 14 [(0, 2, 0), (2, 0, rh_if (0 < j) 1 0), (3, 0, p j)] [] Y 14 [(0, 2, 0), (2, 0, rh_if (0 < N) 1 0), (3, 0, p N)] [] B' ∧ frx Foh A A' ∧ frx Fow B2 B' ∧ ((v = 0 ∧ 400 < B' 0 181) ∨ (v = 1 ∧ Own A' B')) := by
    intro u
    induction u with
    | zero =>
      intro j X Y hj j0 O hY fX fY
      have e : j = N := by omega
      subst e
      refine ⟨1, X, Y, fun P HP => ?_, eS.rf, fX, fY, .inr ⟨rfl, O⟩⟩
      refine rh1.of (rX1_findOwn_7 hh _ _ _ hx ?_)
      rw [fX _ _ (by unfold Foh; omega), fA _ _ (by omega), b1]
      exact ⟨fun z => by omega, fun _ => HP⟩
    | succ u ih =>
      intro j X Y hj j0 O hY fX fY
      obtain ⟨o1, o2, o3⟩ := O
      obtain ⟨y1, y2, y3, y4⟩ := PL'.2 j j0 (by omega)
      obtain ⟨W1, W2⟩ := W j j0 (by omega)
      have eb : rh_if (0 < j) (1 : Int) 0 = 0 ∨ rh_if (0 < j) (1 : Int) 0 = 1 := by
        by_cases q : 0 < j
        · exact .inr (rh_if_t q)
        · exact .inl (rh_if_f q)
      obtain ⟨e, he⟩ : ∃ e, e = rh_if (0 < j) (1 : Int) 0 := ⟨_, rfl⟩
      rw [← he] at eb
      obtain ⟨Y1, EY, a1, a2, a3, a4, a5⟩ := m_ownW hm (p := p j) (n := wsz B (80 * r + j)) (p' := p (j + 1)) (top := p N) (b := e) (o := Y 0 181) (v := wch B (80 * r + j)) ⟨y2.1, y1.1, y2.2.2, by omega⟩ W1 eb ⟨by omega, by omega⟩ W2 Y rfl (by rw [fY 0 177 (by unfold Fow; omega)]; exact e7') (fun s s0 s1 => by rw [fY 140 _ (by unfold Fow; omega)]; exact y3 s s0 s1) (fun q q0 q1 => by rw [fY 140 _ (by unfold Fow; omega)]; exact y4 q q0 q1)
      have fX2 : ∀ c i, 563 ≤ c → X c i = Mh c i := fun c i h => by rw [fX c i (by unfold Foh; omega)]; exact fA c i h
      obtain ⟨H1, H2⟩ := h_ownW hh (A := X) (o := Y 0 181) (e := e) R Q C (r := r) (j := j) hr hw (by rw [hN]; exact ⟨by omega, by omega⟩) (by rw [← (ws _).1]; exact W1) fX2 o1 o2 he
      rw [← (ws _).1] at H1 H2
      rw [← he]
      by_cases big : 400 < Y 0 181 + e + wsz B (80 * r + j)
      · obtain ⟨Y2, E2, c1, c2⟩ := m_ownR hm b2.2 W PL' pn e7' u (j + 1) Y1 (by omega) (by omega) (by rw [a1]; omega) (fY.tr a5)
        rw [rh_if_t (show 0 < j + 1 by omega)] at E2
        exact ⟨0, X, Y2, fun P HP => H1 big P HP, EY.tr E2, fX, c2, .inl ⟨rfl, by omega⟩⟩
      · obtain ⟨X1, EX, d1, d2, d3, d4, d5⟩ := H2 (Int.not_lt.mp big)
        clear H1 H2
        have O1 : Own X1 Y1 := by
          refine ⟨by rw [d1, a1], by omega, fun t t0 t1 => ?_⟩
          rw [a1] at t1
          by_cases q : t < Y 0 181
          · rw [d4 t q, a4 t q]; exact o3 t t0 q
          · by_cases q2 : e = 1 ∧ t = Y 0 181
            · rw [q2.2, d3 q2.1, a3 q2.1]; decide
            · have v1 := d2 (t - (Y 0 181 + e)) (by omega) (by omega)
              have v2 := a2 (t - (Y 0 181 + e)) (by omega) (by omega)
              have v3 := W2 (t - (Y 0 181 + e)) (by omega) (by omega)
              rw [show Y 0 181 + e + (t - (Y 0 181 + e)) = t by omega] at v1 v2
              rw [v1, v2, (ws _).2]
              rw [(ws _).2] at v3
              exact ⟨rfl, by omega, v3.2⟩
        obtain ⟨v, A', B', K1, K2, K3⟩ := ih (j + 1) X1 Y1 (by omega) (by omega) O1 (by rw [a1]; omega) (fX.tr d5) (fY.tr a5)
        rw [rh_if_t (show 0 < j + 1 by omega)] at K2
        exact ⟨v, A', B', fun P HP => rh1.s EX (K1 P HP), EY.tr K2, K3⟩
  obtain ⟨v, A', B', K1, K2, K3, K4, K5⟩ := key N.toNat 0 (rh_set A 0 34 0) B2 (by omega) (by decide) ⟨by rw [rh_set_s, hB2, rh_set_s], by rw [hB2, rh_set_s]; decide, fun t t0 t1 => by rw [hB2, rh_set_s] at t1; omega⟩ (by rw [hB2, rh_set_s]; decide) (frx.rf.st (.inr ⟨rfl, rfl⟩)) frx.rf
  rw [rh_if_f (show ¬ (0 : Int) < 0 by decide)] at K2
  refine ⟨v, A', B', eC.of1 (rC1.of (by decide) (LE0 rfl) ?_), mend B' K4 K2, K3, mfr B' K4, K5⟩
  refine rh1.of (rX1_findOwn_0 hh _ _ hx ?_)
  exact K1 _ ⟨rfl, rfl⟩
end Compare
