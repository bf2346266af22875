/-! ===== LAYER 2: thin, the operation ===== -/
section ThinO
variable {wh wm : rhW}
theorem thH_cg {a b : Int → Int} (h : ∀ j : Int, 0 ≤ j → j < 8 → a j = b j) (m : Int) : thH a m = thH b m := by
  unfold thH
  rw [thb_cg 8 h, thc_cg 8 h]
theorem nct_mono {f g : Int → Int} {c : Int} : ∀ t : Nat, (∀ j : Int, 0 ≤ j → j < t → g j = c → f j = c) → nct g c t ≤ nct f c t
  | 0, _ => by simp [nct]
  | t + 1, h => by
    have := nct_mono t (fun j a b => h j a (by omega))
    simp only [nct]
    by_cases e : g t = c
    · rw [if_pos e, if_pos (h t (by omega) (by omega) e)]; omega
    · rw [if_neg e]; split <;> omega
theorem nct_less {f g : Int → Int} {c k : Int} (k0 : 0 ≤ k) (hf : f k = c) (hg : g k ≠ c) : ∀ t : Nat, k < t → (∀ j : Int, 0 ≤ j → j < t → g j = c → f j = c) → nct g c t < nct f c t
  | 0, h, _ => by omega
  | t + 1, hk, h => by
    simp only [nct]
    by_cases q : k = t
    · have := nct_mono t (fun j a b => h j a (by omega))
      rw [if_neg (q ▸ hg), if_pos (q ▸ hf)]; omega
    · have := nct_less k0 hf hg t (by omega) (fun j a b => h j a (by omega))
      by_cases e : g t = c
      · rw [if_pos e, if_pos (h t (by omega) (by omega) e)]; omega
      · rw [if_neg e]; split <;> omega
def hgo (M : rhM) (W H m k : Int) : Prop := rh_and (M 9 k) 255 < 128 ∧ thH (nbr (inkH M 8 W H) (k % W) (k / W)) m ≠ 0
theorem h_half (hh : rh_hs wh) {P : Int → rhM → Int → rhM → Prop} {w2 : rhW} {Y2 : rhY} {h2 pc2 : Nat} {L2 : rhL} {S2 : List rhA} {M2 : rhM} {x2 x4 x5 x6 W H : Int} {M : rhM} (hW : M 8 1 = W) (hH : M 8 2 = H) (hW0 : 0 < W) (hWb : W ≤ 128) (hHb : H ≤ 96) (hN0 : 0 ≤ W * H) (hN : W * H ≤ 6144) (h6 : 0 ≤ x6 ∧ x6 < 2) (h5 : x5 = 0 ∨ x5 = 1) (h9 : ∀ k, 0 ≤ k → k < W * H → M 9 k = 0 ∨ M 9 k = -1)
    (K : ∀ (M' : rhM) (x5' : Int), frx (fun a _ => a = 9 ∨ a = 236) M M' → (x5' = 0 ∨ x5' = 1) → (x5' = 1 ↔ x5 = 1 ∨ ∃ k, (0 ≤ k ∧ k < W * H) ∧ hgo M W H x6 k) → (∀ k, 0 ≤ k → k < W * H → (hgo M W H x6 k → M' 9 k = -1) ∧ (¬ hgo M W H x6 k → M' 9 k = M 9 k)) → rh2 wh YX1_thin 3 105 [(0, 2, 0), (2, 0, x2), (4, 0, x4), (5, 0, x5'), (6, 0, x6 + 1)] [] M' w2 Y2 h2 pc2 L2 S2 M2 P) : rh2 wh YX1_thin 3 105 [(0, 2, 0), (2, 0, x2), (4, 0, x4), (5, 0, x5), (6, 0, x6)] [] M w2 Y2 h2 pc2 L2 S2 M2 P := by
  replace K := Hid.mk K
  replace h5 := Hid.mk h5
  replace h9 := Hid.mk h9
  refine rh2.l (rX1_thin_105 hh _ _ _ _ _ ?_)
  refine ⟨fun _ => ?_, fun d => absurd h6.2 d⟩
  have key : ∀ (vq : Nat) (k : Int) (M' : rhM), (W * H - k).toNat = vq → (0 ≤ k) → (k ≤ W * H) → (frx (fun a _ => a = 236) M M') → (∀ j, 0 ≤ j → j < k → (hgo M W H x6 j → M' 236 j = 1) ∧ (¬ hgo M W H x6 j → M' 236 j = 0)) → rh2 wh YX1_thin 3 114 [(0, 2, 0), (2, 0, x2), (4, 0, x4), (5, 0, x5), (6, 0, x6), (7, 0, k)] [] M' w2 Y2 h2 pc2 L2 S2 M2 P := by
    intro vq
    induction vq using Nat.strongRecOn with
    | ind vq ih =>
      intro k M' hvq k0 k1 f hg
      replace hg := Hid.mk hg
      have w1 : M' 8 1 = W := by rw [f 8 1 (by omega), hW]
      have w2' : M' 8 2 = H := by rw [f 8 2 (by omega), hH]
      have w9 : M' 9 = M 9 := f.cell (fun j => (by omega))
      refine rh2.l (rX1_thin_114 hh _ _ _ _ _ _ ?_)
      rw [w1, w2', show (8 + 1 : Int) = 9 from rfl, w9]
      refine ⟨⟨by omega, by omega⟩, fun c => ⟨⟨by omega, by omega⟩, fun z => ⟨⟨by omega, by omega⟩, ⟨by omega, by omega⟩, ?_⟩, fun z => ⟨⟨by omega, by omega⟩, ⟨by omega, by omega⟩, ?_⟩⟩, fun c => ?_⟩
      · have db := dm_b hW0 k0 c
        have E := c_isThinned hh (u := k % W) (v := k / W) (m := x6) (hs_sh hh) M' w1 w2' hWb hHb hN db.1 db.2
        have hI : inkH M' 8 W H = inkH M 8 W H := by
          funext a b
          unfold inkH
          rw [show (8 + 1 : Int) = 9 from rfl, w9]
        rw [hI, thH_cg (b := nbr (inkH M 8 W H) (k % W) (k / W)) (fun j j0 j1 => by
          unfold nbr
          rw [show j % 8 = j by omega])] at E
        refine rh2.sl (vX1_thin_170 E (LE0 rfl)) ?_
        refine rh2.l (rX1_thin_173 hh _ _ _ _ _ _ _ _ ?_)
        refine ⟨⟨by omega, by omega⟩, ⟨by omega, by omega⟩, ih _ (by omega) (k + 1) _ rfl (by omega) (by omega) (f.st rfl) (fun j j0 j1 => ?_)⟩
        by_cases q : j = k
        · rw [q, rh_set_s]
          refine ⟨fun y => rh_if_t y.2, fun y => rh_if_f (fun w => y ⟨z, w⟩)⟩
        · rw [rh_set_j q]; exact hg.out j j0 (by omega)
      · refine ih _ (by omega) (k + 1) _ rfl (by omega) (by omega) (f.st rfl) (fun j j0 j1 => ?_)
        by_cases q : j = k
        · rw [q, rh_set_s]
          exact ⟨fun y => absurd y.1 z, fun _ => rfl⟩
        · rw [rh_set_j q]; exact hg.out j j0 (by omega)
      · have hk : k = W * H := (by omega)
        have key2 : ∀ (vq : Nat) (t y5 : Int) (M3 : rhM), (W * H - t).toNat = vq → (0 ≤ t) → (t ≤ W * H) → (frx (fun a _ => a = 9) M' M3) → (y5 = 0 ∨ y5 = 1) → (y5 = 1 ↔ x5 = 1 ∨ ∃ k, (0 ≤ k ∧ k < t) ∧ hgo M W H x6 k) → (∀ j, 0 ≤ j → j < W * H → (j < t → hgo M W H x6 j → M3 9 j = -1) ∧ (t ≤ j ∨ ¬ hgo M W H x6 j → M3 9 j = M 9 j)) → rh2 wh YX1_thin 3 191 [(0, 2, 0), (2, 0, x2), (4, 0, x4), (5, 0, y5), (6, 0, x6), (7, 0, t)] [] M3 w2 Y2 h2 pc2 L2 S2 M2 P := by
          intro vq
          induction vq using Nat.strongRecOn with
          | ind vq ih2 =>
            intro t y5 M3 hvq t0 t1 g b5 e5 hq
            replace b5 := Hid.mk b5
            replace e5 := Hid.mk e5
            replace hq := Hid.mk hq
            have w1 : M3 8 1 = W := by rw [g 8 1 (by omega), w1]
            have w2' : M3 8 2 = H := by rw [g 8 2 (by omega), w2']
            have w236 : M3 236 = M' 236 := g.cell (fun j => (by omega))
            refine rh2.l (rX1_thin_191 hh _ _ _ _ _ _ ?_)
            rw [w1, w2', w236]
            refine ⟨⟨by omega, by omega⟩, fun c2 => ?_, fun c2 => ⟨⟨by omega, by omega⟩, ?_⟩⟩
            · have hgt := hg.out t t0 (by omega)
              have hqt := hq.out t t0 c2
              have h9t := h9.out t t0 c2
              have hv : ∀ v : Int, v = rh_if (M' 236 t ≠ 0) (-1 : Int) (M3 9 t) → (hgo M W H x6 t → v = -1) ∧ (¬ hgo M W H x6 t → v = M 9 t) := fun v ev => by
                rw [ev]
                refine ⟨fun y => rh_if_t (by rw [hgt.1 y]; decide), fun y => ?_⟩
                rw [rh_if_f (by rw [hgt.2 y]; exact fun w => w rfl)]
                exact hqt.2 (.inr y)
              have hv2 : ∀ v : Int, v = rh_if (M' 236 t ≠ 0) (-1 : Int) (M3 9 t) → -128 ≤ v ∧ v ≤ 127 := fun v ev => by
                by_cases y : hgo M W H x6 t
                · rw [(hv v ev).1 y]; exact ⟨by decide, by decide⟩
                · rw [(hv v ev).2 y]
                  rcases h9t with e | e <;> rw [e] <;> exact ⟨by decide, by decide⟩
              have hor : ∀ z : Int, z = rh_or y5 (M' 236 t) → (z = 0 ∨ z = 1) ∧ (z = 1 ↔ x5 = 1 ∨ ∃ k, (0 ≤ k ∧ k < t + 1) ∧ hgo M W H x6 k) := fun z ez => by
                have hb : M' 236 t = 0 ∨ M' 236 t = 1 := by
                  by_cases y : hgo M W H x6 t
                  · exact .inr (hgt.1 y)
                  · exact .inl (hgt.2 y)
                obtain ⟨o1, o2⟩ := or01 b5.out hb
                rw [ez]
                refine ⟨o1, o2.trans ?_⟩
                constructor
                · intro y
                  rcases y with y | y
                  · rcases e5.out.mp y with y | ⟨a, a0, a1⟩
                    · exact .inl y
                    · exact .inr ⟨a, ⟨a0.1, (by omega)⟩, a1⟩
                  · refine .inr ⟨t, ⟨t0, (by omega)⟩, ?_⟩
                    by_cases w : hgo M W H x6 t
                    · exact w
                    · rw [hgt.2 w] at y; exact absurd y (by decide)
                · intro y
                  rcases y with y | ⟨a, a0, a1⟩
                  · exact .inl (e5.out.mpr (.inl y))
                  · by_cases q : a = t
                    · exact .inr (hgt.1 (q ▸ a1))
                    · exact .inl (e5.out.mpr (.inr ⟨a, ⟨a0.1, (by omega)⟩, a1⟩))
              refine ⟨⟨by omega, by omega⟩, fun _ => ⟨by omega, by omega⟩, fun v ev => ⟨⟨by omega, by omega⟩, hv2 v ev, ⟨by omega, by omega⟩, fun z ez => ⟨⟨by omega, by omega⟩, ih2 _ (by omega) (t + 1) z _ rfl (by omega) (by omega) (g.st rfl) (hor z (by rw [ez, rh_set_a (by decide), w236])).1 (hor z (by rw [ez, rh_set_a (by decide), w236])).2 (fun j j0 j1 => ?_)⟩⟩⟩
              obtain ⟨v1, v2⟩ := hv v ev
              clear hor hv hv2 hgt hqt
              by_cases q : j = t
              · rw [q, rh_set_s]
                refine ⟨fun _ y => v1 y, fun y => ?_⟩
                rcases y with y | y
                · omega
                · exact v2 y
              · rw [rh_set_j q]
                obtain ⟨p1, p2⟩ := hq.out j j0 j1
                refine ⟨fun a b => p1 (by omega) b, fun a => p2 ?_⟩
                rcases a with a | a
                · exact .inl (by omega)
                · exact .inr a
            · have ht : t = W * H := (by omega)
              refine K.out M3 y5 ((f.w (fun a j h => .inr h)).tr (g.w (fun a j h => .inl h))) b5.out (by rw [← ht]; exact e5.out) (fun j j0 j1 => ?_)
              have := hq.out j j0 j1
              exact ⟨fun y => this.1 (by omega) y, fun y => this.2 (.inr y)⟩
        refine key2 _ 0 x5 M' rfl (by omega) hN0 frx.rf h5.out ⟨fun y => .inl y, fun y => ?_⟩ (fun j j0 j1 => ⟨fun y => by omega, fun _ => by rw [w9]⟩)
        rcases y with y | ⟨a, a0, a1⟩
        · exact y
        · omega
  exact key _ 0 M rfl (by omega) hN0 frx.rf (fun j j0 j1 => by omega)
/-- the same ink on both sides -/
def B9 (M N : rhM) (W H : Int) : Prop := ∀ k, 0 ≤ k → k < W * H → (N 11 k = 0 ∧ M 9 k = -1) ∨ (N 11 k = 1 ∧ M 9 k = 0)
theorem B9.ink {M N : rhM} {W H : Int} (B : B9 M N W H) : inkH M 8 W H = inkM N W H := by
  funext u v
  unfold inkH inkM
  refine ite_congr (propext ?_) (fun _ => rfl) (fun _ => rfl)
  constructor
  · intro ⟨⟨a, b, c, d⟩, e⟩
    have := ix_b a b c d
    refine ⟨a, c, b, d, ?_⟩
    rw [Int.mul_comm]
    rcases B _ this.1 this.2 with q | q
    · rw [show (8 + 1 : Int) = 9 from rfl, q.2] at e; exact absurd e (by decide)
    · rw [q.1]; decide
  · intro ⟨a, c, b, d, e⟩
    have := ix_b a b c d
    refine ⟨⟨a, b, c, d⟩, ?_⟩
    rw [Int.mul_comm] at e
    rcases B _ this.1 this.2 with q | q
    · exact absurd q.1 e
    · rw [show (8 + 1 : Int) = 9 from rfl, q.2]; decide
theorem B9.go {M N : rhM} {W H : Int} (B : B9 M N W H) {k : Int} (k0 : 0 ≤ k) (k1 : k < W * H) : (hgo M W H 0 k ↔ thk N W H 1 k) ∧ (hgo M W H 1 k ↔ thk N W H 0 k) := by
  unfold hgo thk
  have hb : rh_and (M 9 k) 255 < 128 ↔ N 11 k ≠ 0 := by
    rcases B k k0 k1 with q | q
    · rw [q.1, q.2]; decide
    · rw [q.1, q.2]; decide
  have ht := th_eq (a := nbr (inkH M 8 W H) (k % W) (k / W)) (b := nbr (inkM N W H) (k % W) (k / W)) (fun j j0 j1 => ⟨by rw [B.ink], by unfold nbr inkH; split; exact .inr rfl; exact .inl rfl⟩) rfl
  rw [ht.1, ht.2, hb]
  exact ⟨Iff.rfl, Iff.rfl⟩
theorem B9.half {M N M' N' : rhM} {W H a b : Int} (B : B9 M N W H) (hg : ∀ k, 0 ≤ k → k < W * H → (hgo M W H a k ↔ thk N W H b k)) (h1 : ∀ k, 0 ≤ k → k < W * H → (hgo M W H a k → M' 9 k = -1) ∧ (¬ hgo M W H a k → M' 9 k = M 9 k)) (h2 : ∀ k, 0 ≤ k → k < W * H → (thk N W H b k → N' 11 k = 0) ∧ (¬ thk N W H b k → N' 11 k = N 11 k)) : B9 M' N' W H := by
  intro k k0 k1
  obtain ⟨a1, a2⟩ := h1 k k0 k1
  obtain ⟨b1, b2⟩ := h2 k k0 k1
  have g := hg k k0 k1
  by_cases y : hgo M W H a k
  · exact .inl ⟨b1 (g.mp y), a1 y⟩
  · rw [b2 (fun z => y (g.mpr z)), a2 y]
    exact B k k0 k1
theorem op_thin (hh : rh_hs wh) (hm : rh_ms wm) {Mh Mm : rhM} (R : Rpg Mh Mm) (x1 x2 : Int) : rC2 wh YX1_thin 3 [(2, 0), (0, x1), (0, x2)] Mh wm YX32_thin 4 [(2, 0), (0, x1), (0, x2)] Mm (fun r M' r2 M2' => r = r2 ∧ Pres Mh Mm M' M2') := by
  refine rC2.of (by decide) (LE0 rfl) (by decide) (LE0 rfl) ?_
  have e4 : ∀ j, rh_set Mm 0 0 0 4 j = Mm 4 j := fun j => rh_set_a (by decide)
  have e5 : ∀ j, rh_set Mm 0 0 0 5 j = Mm 5 j := fun j => rh_set_a (by decide)
  have f0 : frx Gw Mm (rh_set Mm 0 0 0) := frx.rf.st (by unfold Gw; omega)
  have hc := gpage2 R x1 x2
  refine rh2.l (rX1_thin_0 hh _ _ _ ?_)
  refine ⟨(by omega), fun c => ?_, fun c => ?_⟩
  · refine rh1.of (rX32_thin_0 hm _ _ _ ?_)
    exact ⟨(by omega), fun _ => ⟨rfl, .inl ⟨frx.rf, f0⟩⟩, fun d => absurd (hc.mp c) d⟩
  have hp : 0 ≤ x1 ∧ x1 < 8 := ⟨by omega, by omega⟩
  have hq : 0 ≤ x2 ∧ x2 < 8 := ⟨by omega, by omega⟩
  refine ⟨hp, ?_⟩
  refine rh2.r (rX32_thin_0 hm _ _ _ ?_)
  refine ⟨(by omega), fun d => absurd (hc.mpr d) c, fun _ => ?_⟩
  obtain ⟨R1, b⟩ := R x1 hp.1 hp.2
  have hx1 : 0 < Mm 4 x1 := (by omega)
  obtain ⟨a1, a2, a3, a4, a5, a6, a7, a8, a9, a10⟩ := R1
  clear c hc b
  replace a9 := Hid.mk a9
  generalize hWW : Mm 4 x1 = W at *
  generalize hHH : Mm 5 x1 = H at *
  obtain ⟨r, N1, D1, -, g1, g17, g18, g11⟩ := c_inkOf hm hp (rh_set Mm 0 0 0) (by rw [e4, e5, hWW, hHH]; exact a7) (by rw [e4, e5, hWW, hHH]; exact a8)
  rw [e4, hWW] at g17
  rw [e5, hHH] at g18
  rw [e4, e5, hWW, hHH] at g11
  refine rh2.sr (vX32_thin_26 hm D1 (LE0 rfl)) ?_
  refine rh2.r (rX32_thin_29 hm _ _ ?_)
  rw [a1, a2]
  have F1 : frx Gw Mm N1 := f0.tr (g1.w (fun a j h => by unfold Gw; omega))
  -- the first copy
  have key : ∀ (vq : Nat) (k : Int) (M' : rhM), (W * H - k).toNat = vq → (0 ≤ k) → (k ≤ W * H) → (frx (fun a _ => a = 8 ∨ a = 9) Mh M') → (M' 8 1 = W) → (M' 8 2 = H) → (∀ j, 0 ≤ j → j < k → (N1 11 j = 0 ∧ M' 9 j = -1) ∨ (N1 11 j = 1 ∧ M' 9 j = 0)) → rh2 wh YX1_thin 3 43 [(0, 2, 0), (2, 0, x2), (3, 2, 251 + 39 * x1), (4, 0, k)] [] M' wm YX32_thin 4 34 [(0, 2, 0), (2, 0, x2), (3, 0, 0), (4, 0, 1)] [] N1 (fun r M' r2 M2' => r = r2 ∧ Pres Mh Mm M' M2') := by
    intro vq
    induction vq using Nat.strongRecOn with
    | ind vq ih =>
      intro k M' hvq k0 k1 f s1 s2 hj
      replace hj := Hid.mk hj
      refine rh2.l (rX1_thin_43 hh _ _ _ _ (hs_pg hh hp.1 hp.2) ?_)
      rw [f _ _ (by omega), a1, f _ _ (by omega), a2, f.cell (a := 251 + 39 * x1 + 1) (fun j => (by omega))]
      refine ⟨⟨by omega, by omega⟩, fun c => ⟨⟨by omega, by omega⟩, fun v ev => ?_⟩, fun c => ?_⟩
      · have hk := g11 k ⟨k0, c⟩
        rw [rh_set_a (by decide), ← (a10 k k0 c).1] at hk
        have hv : (N1 11 k = 0 ∧ v = -1) ∨ (N1 11 k = 1 ∧ v = 0) := by
          rw [ev]
          by_cases y : rh_and (Mh (251 + 39 * x1 + 1) k) 255 < 128
          · rw [if_pos y] at hk
            rw [rh_if_t y]
            exact .inr ⟨hk, rfl⟩
          · rw [if_neg y] at hk
            rw [rh_if_f y]
            exact .inl ⟨hk, rfl⟩
        refine ⟨⟨by omega, by omega⟩, by rcases hv with h | h <;> rw [h.2] <;> exact ⟨by decide, by decide⟩, ⟨by omega, by omega⟩, ih _ (by omega) (k + 1) _ rfl (by omega) (by omega) (f.st (.inr rfl)) (by rw [rh_set_a (by decide), s1]) (by rw [rh_set_a (by decide), s2]) (fun j j0 j1 => ?_)⟩
        by_cases q : j = k
        · rw [q, rh_set_s]; exact hv
        · rw [rh_set_j q]; exact hj.out j j0 (by omega)
      · have hk : k = W * H := (by omega)
        have B0 : B9 M' N1 W H := fun j j0 j1 => hj.out j j0 (by omega)
        have n0 := nct_b (N1 11) 1 (W * H).toNat
        have key2 : ∀ (vq : Nat) (n fl : Int) (M' N' : rhM), (2 * nct (N' 11) 1 (W * H).toNat + fl).toNat = vq → (fl = 0 ∨ fl = 1) → (0 ≤ n ∧ n ≤ 6145) → (fl = 1 → n + nct (N' 11) 1 (W * H).toNat ≤ 6144) → (frx (fun a _ => a = 8 ∨ a = 9 ∨ a = 236) Mh M') → (frx (fun a _ => a = 10 ∨ a = 11 ∨ a = 14) N1 N') → (M' 8 1 = W) → (M' 8 2 = H) → (B9 M' N' W H) → rh2 wh YX1_thin 3 91 [(0, 2, 0), (2, 0, x2), (4, 0, n), (5, 0, fl)] [] M' wm YX32_thin 4 34 [(0, 2, 0), (2, 0, x2), (3, 0, n), (4, 0, fl)] [] N' (fun r M' r2 M2' => r = r2 ∧ Pres Mh Mm M' M2') := by
          intro vq
          induction vq using Nat.strongRecOn with
          | ind vq ih2 =>
            intro n fl M' N' hvq fb nb nf f g s1 s2 B
            replace B := Hid.mk B
            have n1 := nct_b (N' 11) 1 (W * H).toNat
            have w17 : N' 0 17 = W := by rw [g 0 17 (by omega), g17]
            have w18 : N' 0 18 = H := by rw [g 0 18 (by omega), g18]
            refine rh2.l (rX1_thin_91 hh _ _ _ _ ?_)
            refine ⟨fun c => ?_, fun c => ⟨hq, ?_⟩⟩
            · refine ⟨⟨by omega, by omega⟩, ?_⟩
              refine rh2.r (rX32_thin_34 hm _ _ _ _ ?_)
              refine ⟨fun _ => ⟨⟨by omega, by omega⟩, ?_⟩, fun d => absurd c d⟩
              have hfl : fl = 1 := (by omega)
              have nf := nf hfl
              clear fb
              have h9 : ∀ (M N : rhM), B9 M N W H → ∀ k, 0 ≤ k → k < W * H → M 9 k = 0 ∨ M 9 k = -1 := fun M N B k k0 k1 => by
                rcases B k k0 k1 with q | q
                · exact .inr q.2
                · exact .inl q.2
              obtain ⟨c1, N2, D2, cb2, g2, gc2, gk2⟩ := c_thinHalf hm (m := 1) N' w17 w18 hx1 a4 a6 a7 a8
              replace gc2 := Hid.mk gc2
              refine rh2.sr (vX32_thin_44 hm D2 (LE0 rfl)) ?_
              refine rh2.r (rX32_thin_47 hm _ _ _ _ ?_)
              obtain ⟨c2, N3, D3, cb3, g3, gc3, gk3⟩ := c_thinHalf hm (m := 0) N2 (by rw [g2 0 17 (by omega), w17]) (by rw [g2 0 18 (by omega), w18]) hx1 a4 a6 a7 a8
              replace gc3 := Hid.mk gc3
              refine rh2.sr (vX32_thin_53 hm D3 (LE0 rfl)) ?_
              refine rh2.r (rX32_thin_56 hm _ _ _ _ _ ?_)
              refine ⟨⟨by omega, by omega⟩, fun fl' efl => ?_⟩
              refine h_half hh s1 s2 hx1 a4 a6 a7 a8 (by decide) (.inl rfl) (h9 _ _ B.out) (fun M2 y5 f2 b5 e5 k5 => ?_)
              have B2 : B9 M2 N2 W H := B.out.half (fun k k0 k1 => (B.out.go k0 k1).1) k5 gk2
              replace b5 := Hid.mk b5
              replace e5 := Hid.mk e5
              refine h_half hh (by rw [f2 8 1 (by omega), s1]) (by rw [f2 8 2 (by omega), s2]) hx1 a4 a6 a7 a8 (by decide) b5.out (h9 _ _ B2) (fun M3 z5 f3 c5 d5 k6 => ?_)
              have B3 : B9 M3 N3 W H := B2.half (fun k k0 k1 => (B2.go k0 k1).2) k6 gk3
              replace d5 := Hid.mk d5
              have hfz : fl' = z5 := by
                have q1 : 0 < c1 + c2 ↔ z5 = 1 := by
                  have q2 : z5 = 1 ↔ (0 < c1 ∨ 0 < c2) := by
                    rw [d5.out, e5.out, gc2.out, gc3.out]
                    constructor
                    · intro y
                      rcases y with (y | ⟨k, k0, k1⟩) | ⟨k, k0, k1⟩
                      · exact absurd y (by decide)
                      · exact .inl ⟨k, k0, (B.out.go k0.1 k0.2).1.mp k1⟩
                      · exact .inr ⟨k, k0, (B2.go k0.1 k0.2).2.mp k1⟩
                    · intro y
                      rcases y with ⟨k, k0, k1⟩ | ⟨k, k0, k1⟩
                      · exact .inl (.inr ⟨k, k0, (B.out.go k0.1 k0.2).1.mpr k1⟩)
                      · exact .inr ⟨k, k0, (B2.go k0.1 k0.2).2.mpr k1⟩
                  omega
                rw [efl, rh_ifd]
                by_cases y : 0 < c1 + c2
                · rw [if_pos y, q1.mp y]
                · rw [if_neg y]
                  have : z5 ≠ 1 := fun w => y (q1.mpr w)
                  omega
              have hm1 : ∀ j : Int, 0 ≤ j → j < ((W * H).toNat : Int) → N2 11 j = 1 → N' 11 j = 1 := fun j j0 j1 h => by
                obtain ⟨p1, p2⟩ := gk2 j j0 (by omega)
                by_cases y : thk N' W H 1 j
                · rw [p1 y] at h; exact absurd h (by decide)
                · rw [← p2 y]; exact h
              have hm2 : ∀ j : Int, 0 ≤ j → j < ((W * H).toNat : Int) → N3 11 j = 1 → N2 11 j = 1 := fun j j0 j1 h => by
                obtain ⟨p1, p2⟩ := gk3 j j0 (by omega)
                by_cases y : thk N2 W H 0 j
                · rw [p1 y] at h; exact absurd h (by decide)
                · rw [← p2 y]; exact h
              have l1 := nct_mono _ hm1
              have l2 := nct_mono _ hm2
              have hdec : z5 = 1 → nct (N3 11) 1 (W * H).toNat < nct (N' 11) 1 (W * H).toNat := fun y => by
                rcases d5.out.mp y with y | ⟨k, k0, k1⟩
                · rcases e5.out.mp y with y | ⟨k, k0, k1⟩
                  · exact absurd y (by decide)
                  · have t := (B.out.go k0.1 k0.2).1.mp k1
                    have t1 : N' 11 k = 1 := by
                      rcases B.out k k0.1 k0.2 with q | q
                      · exact absurd q.1 t.1
                      · exact q.1
                    have := nct_less k0.1 t1 (g := N2 11) (by rw [(gk2 k k0.1 k0.2).1 t]; decide) (W * H).toNat (by omega) hm1
                    omega
                · have t := (B2.go k0.1 k0.2).2.mp k1
                  have t1 : N2 11 k = 1 := by
                    rcases B2 k k0.1 k0.2 with q | q
                    · exact absurd q.1 t.1
                    · exact q.1
                  have := nct_less k0.1 t1 (g := N3 11) (by rw [(gk3 k k0.1 k0.2).1 t]; decide) (W * H).toNat (by omega) hm2
                  omega
              rw [hfz]
              refine rh2.l (rX1_thin_105 hh _ _ _ _ _ ?_)
              refine ⟨fun d => absurd d (by decide), fun _ => ?_⟩
              have n3 := nct_b (N3 11) 1 (W * H).toNat
              refine ih2 _ ?_ (n + 1) z5 M3 N3 rfl c5 ⟨by omega, by omega⟩ (fun y => ?_) ((f.tr (f2.w (fun a j h => by omega))).tr (f3.w (fun a j h => by omega))) ((g.tr g2).tr g3) (by rw [f3 8 1 (by omega), f2 8 1 (by omega), s1]) (by rw [f3 8 2 (by omega), f2 8 2 (by omega), s2]) B3
              · rcases c5 with h | h
                · omega
                · have := hdec h
                  omega
              · have := hdec y
                omega
            · have hfl : fl = 0 := (by omega)
              refine rh2.sl (vX1_thin_274 (hs_pg hh hq.1 hq.2) (c_lay hh (hs_pg hh hq.1 hq.2) (hs_sh hh) (by omega) M' (by rw [s1, s2]; exact a7) (by rw [s1, s2]; exact a8)) (LE0 rfl)) ?_
              refine rh2.l (rX1_thin_277 hh _ _ ?_)
              refine rh1.of (rX32_thin_34 hm _ _ _ _ ?_)
              refine ⟨fun d => absurd d c, fun _ => ?_⟩
              have key3 : ∀ (vq : Nat) (t : Int) (N4 : rhM), (W * H - t).toNat = vq → (0 ≤ t) → (t ≤ W * H) → (frx (fun a _ => a = 6) N' N4) → (∀ j, 0 ≤ j → j < t → N4 6 j = rh_if (N' 11 j ≠ 0) (0 : Int) 255) → rh1 wm YX32_thin 4 77 [(0, 2, 0), (2, 0, x2), (3, 0, n), (5, 0, t)] [] N4 (fun r2 M2' => n = r2 ∧ Pres Mh Mm (m_lay M' (251 + 39 * x2) 8) M2') := by
                intro vq
                induction vq using Nat.strongRecOn with
                | ind vq ih3 =>
                  intro t N4 hvq t0 t1 g4 hj4
                  refine rh1.of (rX32_thin_77 hm _ _ _ _ ?_)
                  rw [g4 0 17 (by omega), g4 0 18 (by omega), w17, w18, g4 11 t (by omega)]
                  refine ⟨⟨by omega, by omega⟩, fun d => ⟨⟨by omega, by omega⟩, fun v ev => ⟨⟨by omega, by omega⟩, ⟨by omega, by omega⟩, ih3 _ (by omega) (t + 1) _ rfl (by omega) (by omega) (g4.st rfl) (fun j j0 j1 => ?_)⟩⟩, fun d => ?_⟩
                  · by_cases q : j = t
                    · rw [q, rh_set_s, ev]
                    · rw [rh_set_j q]; exact hj4 j j0 (by omega)
                  · refine rh1.s (vX32_thin_131 hm (c_bec hm hq N4 a7 a8) (LE0 rfl)) ?_
                    refine rh1.of (rX32_thin_134 hm _ _ ?_)
                    refine ⟨rfl, .inr ⟨x2, hq, Laid.mk R hq (f.w (fun a j h => by unfold Hw; omega)) ((F1.tr (g.w (fun a j h => by unfold Gw; omega))).tr (g4.w (fun a j h => by unfold Gw; omega))) ⟨s1, s2, a3, a4, a5, a6, a7, a8, a9.out, fun j j0 j1 => ?_⟩ hx1⟩⟩
                    rw [hj4 j j0 (by omega)]
                    rcases B.out j j0 j1 with q | q
                    · rw [q.1, q.2, rh_if_f (by decide)]; decide
                    · rw [q.1, q.2, rh_if_t (by decide)]; decide
              exact key3 _ 0 N' rfl (by omega) a7 frx.rf (fun j j0 j1 => by omega)
        refine key2 _ 0 1 M' N1 rfl (.inr rfl) ⟨by omega, by omega⟩ (fun _ => by omega) (f.w (fun a j h => by omega)) frx.rf s1 s2 B0
  exact key _ 0 _ rfl (by omega) a7 ((frx.rf.st (.inl rfl)).st (.inl rfl)) (by simp [rh_sets]) (by simp [rh_sets]) (fun j j0 j1 => by omega)
end ThinO
