/-! ===== LAYER 2: what page operations leave; clean ===== -/
section Clean
variable {wh wm : rhW}
/-- scratch of the house, of the model (for operations on pages) -/
abbrev Hw (a _j : Int) : Prop := (8 ≤ a ∧ a ≤ 15) ∨ a = 17 ∨ (25 ≤ a ∧ a ≤ 40) ∨ (236 ≤ a ∧ a ≤ 238)
abbrev Gw (a j : Int) : Prop := (a = 0 ∧ (j = 0 ∨ (10 ≤ j ∧ j ≤ 38))) ∨ (6 ≤ a ∧ a ≤ 22)
abbrev Flay (q a j : Int) : Prop := (a = 251 + 39 * q ∧ (j = 1 ∨ j = 2 ∨ j = 3 ∨ j = 4 ∨ j = 16)) ∨ a = 251 + 39 * q + 1 ∨ (a = 251 + 39 * q + 9 ∧ j = 0)
abbrev Glay (q a j : Int) : Prop := (a = 3 ∧ 6144 * q ≤ j ∧ j < 6144 * q + 6144) ∨ ((a = 4 ∨ a = 5 ∨ a = 23 ∨ a = 157) ∧ j = q)
def Laid (q : Int) (Mh Mm M' M2' : rhM) : Prop := Rpg M' M2' ∧ (M' (251 + 39 * q + 9) 0 = 0 ∧ M' (251 + 39 * q) 16 = 0 ∧ M' (251 + 39 * q) 4 = 0 ∧ M2' 23 q = 0 ∧ M2' 157 q = 0) ∧ frx (fun a j => Hw a j ∨ Flay q a j) Mh M' ∧ frx (fun a j => Gw a j ∨ Glay q a j) Mm M2'
/-- pages as they were, or page q anew -/
def Pres (Mh Mm M' M2' : rhM) : Prop := (frx Hw Mh M' ∧ frx Gw Mm M2') ∨ ∃ q : Int, (0 ≤ q ∧ q < 8) ∧ Laid q Mh Mm M' M2'
theorem Rpg.fx {Mh Mm Mh' Mm' : rhM} {F G : Int → Int → Prop} (R : Rpg Mh Mm) (f : frx F Mh Mh') (g : frx G Mm Mm') (hF : ∀ p a j : Int, 0 ≤ p → p < 8 → F a j → ¬ (a = 251 + 39 * p ∧ (j = 1 ∨ j = 2 ∨ j = 3)) ∧ a ≠ 251 + 39 * p + 1) (hG : ∀ a j : Int, G a j → a ≠ 3 ∧ a ≠ 4 ∧ a ≠ 5) : Rpg Mh' Mm' := by
  intro q q0 q1
  obtain ⟨h, h2⟩ := R q q0 q1
  have g3 := g.cell (a := 3) (fun j z => (hG _ _ z).1 rfl)
  have g4 := g.cell (a := 4) (fun j z => (hG _ _ z).2.1 rfl)
  have g5 := g.cell (a := 5) (fun j z => (hG _ _ z).2.2 rfl)
  refine ⟨h.fx (f _ _ (fun z => (hF q _ _ q0 q1 z).1 ⟨rfl, (by omega)⟩)) (f _ _ (fun z => (hF q _ _ q0 q1 z).1 ⟨rfl, (by omega)⟩)) (f.cell (fun j z => (hF q _ _ q0 q1 z).2 rfl)) g3 g4 g5, ?_⟩
  rw [f _ _ (fun z => (hF q _ _ q0 q1 z).1 ⟨rfl, (by omega)⟩), g4]
  exact h2
theorem frx.cpy {F : Int → Int → Prop} {M M' : rhM} {r sp r1 a n : Int} (h : frx F M M') (hr : ∀ j, a ≤ j → j < a + n → F r1 j) : frx F M (rh_cpy M' r sp r1 a n) := by
  intro c j hn
  rw [← h c j hn]
  unfold rh_cpy
  by_cases e : c = r1
  · rw [if_pos e, if_neg]
    intro z
    exact hn (e ▸ hr j z.1 z.2)
  · rw [if_neg e]
theorem m_lay_f {M : rhM} {x y : Int} {F : Int → Int → Prop} (h1 : F x 1) (h2 : F x 2) (h3 : F x 3) (h4 : F x 4) (h5 : F x 16) (h6 : ∀ j, F (x + 1) j) (h7 : F (x + 9) 0) : frx F M (m_lay M x y) :=
  (((((((frx.rf.st h1).st h2).cpy (fun j _ _ => h6 j)).st h3).st h4).st h7).st h5)
theorem m_bec_f {M : rhM} {p a b : Int} {F : Int → Int → Prop} (h1 : F 4 p) (h2 : F 5 p) (h3 : ∀ j, 6144 * p ≤ j → j < 6144 * p + a * b → F 3 j) (h4 : F 23 p) (h5 : F 157 p) : frx F M (m_bec M p a b) :=
  ((((frx.rf.st h1).st h2).cpy h3).st h4).st h5
theorem Laid.mk {q a b : Int} {Mh Mm M1 M2 : rhM} (R : Rpg Mh Mm) (hq : 0 ≤ q ∧ q < 8) (f : frx Hw Mh M1) (g : frx Gw Mm M2) (S : Rsp M1 M2 a b) (ha : 0 < a) : Laid q Mh Mm (m_lay M1 (251 + 39 * q) 8) (m_bec M2 q a b) := by
  have R1 : Rpg M1 M2 := R.fx f g (fun p a j p0 p1 h => ⟨(by omega), (by omega)⟩) (fun a j h => ⟨(by omega), (by omega), (by omega)⟩)
  refine ⟨Rpg_lay R1 hq S ha, ⟨?_, ?_, ?_, ?_, ?_⟩, (f.w (fun a j h => .inl h)).tr (m_lay_f (by omega) (by omega) (by omega) (by omega) (by omega) (fun j => (by omega)) (by omega)), (g.w (fun a j h => .inl h)).tr (m_bec_f (by omega) (by omega) (fun j h1 h2 => ?_) (by omega) (by omega))⟩
  · simp [m_lay, rh_sets]
  · simp [m_lay, rh_sets]
  · have e1 : ¬ (251 + 39 * q = 251 + 39 * q + 9) := (by omega)
    simp [m_lay, rh_sets]
  · simp [m_bec, rh_sets]
  · simp [m_bec, rh_sets]
  · have := S.2.2.2.2.2.2.2.1
    exact .inr (.inl ⟨rfl, h1, (by omega)⟩)
theorem c_measureSets (hm : rh_ms wm) {W H : Int} {col : Int → Prop} {E : Prop} (M : rhM) (hW : M 0 17 = W) (hH : M 0 18 = H) (hW0 : 0 ≤ W) (hWb : W ≤ 128) (hHb : H ≤ 96) (hN0 : 0 ≤ W * H) (hN : W * H ≤ 6144) (L : Lb W (W * H) col E (M 9) (M 0 19)) (hL : M 0 19 ≤ W * H) :
    rC1 wm YX32_measureSets 0 [(2, 0)] M (fun r M' => r = 0 ∧ frx (fun a _ => a = 12 ∨ a = 13) M M' ∧ Pts W H col E (M 9) (M 0 19) (M' 12) (M' 13)) := by
  refine rC1.of (by decide) (LE0 rfl) ?_
  refine rh1.of (rX32_measureSets_0 hm _ ?_)
  have c0 := L.2.2.2.2.2
  have LL := L
  replace LL := Hid.mk LL
  have L1 := L.1
  clear L
  have key : ∀ (v : Nat) (i : Int) (M' : rhM), (M 0 19 - i).toNat = v → (0 ≤ i) → (i ≤ M 0 19) → (frx (fun a _ => a = 12 ∨ a = 13) M M') → (∀ j, 0 ≤ j → j < i → M' 12 j = 0 ∧ M' 13 j = 0) → rh1 wm YX32_measureSets 0 2 [(0, 2, 0), (1, 0, i)] [] M' (fun r M' => r = 0 ∧ frx (fun a _ => a = 12 ∨ a = 13) M M' ∧ Pts W H col E (M 9) (M 0 19) (M' 12) (M' 13)) := by
    intro v
    induction v using Nat.strongRecOn with
    | ind v ih =>
      intro i M' hv i0 i1 f hj
      refine rh1.of (rX32_measureSets_2 hm _ _ ?_)
      rw [f 0 19 (by omega)]
      refine ⟨fun c => ⟨⟨by omega, by omega⟩, ⟨by omega, by omega⟩, ⟨by omega, by omega⟩, ?_⟩, fun c => ?_⟩
      · refine ih _ (by omega) (i + 1) _ rfl (by omega) (by omega) ((f.st (.inl rfl)).st (.inr rfl)) (fun j j0 j1 => ?_)
        by_cases q : j = i
        · rw [q]; simp [rh_sets]
        · rw [rh_set_j q, rh_set_j q, rh_set_j q, rh_set_j q]; exact hj j j0 (by omega)
      · have hi : i = M 0 19 := (by omega)
        subst hi
        have key2 : ∀ (v : Nat) (k : Nat) (M2 : rhM), (W * H - k).toNat = v → ((k : Int) ≤ W * H) → (frx (fun a _ => a = 12 ∨ a = 13) M M2) → (∀ c, 0 ≤ c → c < M 0 19 → M2 12 c = nct (M 9) c k ∧ (M2 13 c = 0 ∨ M2 13 c = 1) ∧ (M2 13 c = 1 ↔ ∃ j, (0 ≤ j ∧ j < (k : Int)) ∧ M 9 j = c ∧ brd W H j)) → rh1 wm YX32_measureSets 0 32 [(0, 2, 0), (1, 0, (k : Int))] [] M2 (fun r M' => r = 0 ∧ frx (fun a _ => a = 12 ∨ a = 13) M M' ∧ Pts W H col E (M 9) (M 0 19) (M' 12) (M' 13)) := by
          intro v
          induction v using Nat.strongRecOn with
          | ind v ih2 =>
            intro k M2 hv k1 f2 hq
            have w9 : M2 9 = M 9 := f2.cell (fun j => (by omega))
            have eK : ((k + 1 : Nat) : Int) = (k : Int) + 1 := (by omega)
            refine rh1.of (rX32_measureSets_32 hm _ _ ?_)
            rw [f2 0 17 (by omega), f2 0 18 (by omega), hW, hH, w9]
            refine ⟨⟨by omega, by omega⟩, fun c => ⟨⟨by omega, by omega⟩, fun z => ?_, fun z => ⟨⟨by omega, by omega⟩, ?_⟩⟩, fun c => ⟨rfl, f2, LL.out, hL, fun d d0 d1 => ?_⟩⟩
            · have hW1 := wpos hW0 (show (0 : Int) ≤ (k : Int) by omega) c
              have bk := dm_b hW1 (show (0 : Int) ≤ (k : Int) by omega) c
              have hl1 := (L1 (k : Int) ⟨by omega, by omega⟩).2
              generalize hg : M 9 (k : Int) = g at *
              have hg0 : 0 ≤ g ∧ g < 6144 := ⟨by omega, by omega⟩
              obtain ⟨a1, a2, a3⟩ := hq g (by omega) (by omega)
              replace a2 := Hid.mk a2
              replace a3 := Hid.mk a3
              have nbd := nct_b (M 9) g k
              refine ⟨⟨by omega, by omega⟩, fun px epx => ⟨⟨by omega, by omega⟩, fun py epy => ⟨⟨by omega, by omega⟩, hg0, fun na ena => ⟨hg0, ⟨by omega, by omega⟩, fun M3 e3 => ?_⟩⟩⟩⟩
              have x9 : M3 9 = M 9 := by rw [e3, rh_set_n (by decide), w9]
              have x17 : M3 0 17 = W := by rw [e3, rh_set_a (by decide), f2 0 17 (by omega), hW]
              have x18 : M3 0 18 = H := by rw [e3, rh_set_a (by decide), f2 0 18 (by omega), hH]
              have x13 : M3 13 = M2 13 := by rw [e3, rh_set_n (by decide)]
              rw [x9, hg, x17, x18, x13]
              refine ⟨⟨by omega, by omega⟩, ⟨by omega, by omega⟩, hg0, fun _ _ _ => ⟨by omega, by omega⟩, fun _ _ _ _ => ⟨by omega, by omega⟩, fun ed eed => ⟨hg0, ?_, ⟨by omega, by omega⟩, ?_⟩⟩
              · rw [eed, rh_if]; split <;> exact ⟨by decide, by decide⟩
              rw [← eK]
              have hb : (px = 0 ∨ (py = 0 ∨ (px = W - 1 ∨ py = H - 1))) ↔ brd W H (k : Int) := by
                unfold brd; rw [epx, epy]
              refine ih2 _ (by omega) (k + 1) _ rfl (by omega) ?_ (fun d d0 d1 => ?_)
              · rw [e3]; exact (f2.st (.inl rfl)).st (.inr rfl)
              · by_cases q : d = g
                · subst q
                  have a2 := a2.out
                  have a3 := a3.out
                  have r12 : rh_set M3 13 d ed 12 d = na := by rw [e3]; simp [rh_sets]
                  rw [r12, rh_set_s]
                  refine ⟨by simp only [nct]; rw [if_pos hg, ena, a1], ?_, ?_⟩
                  · rw [eed, rh_ifd]; split
                    · exact .inr rfl
                    · exact .inl rfl
                  · rw [eed, rh_ifd]
                    by_cases y : M2 13 d ≠ 0 ∨ (px = 0 ∨ (py = 0 ∨ (px = W - 1 ∨ py = H - 1)))
                    · rw [if_pos y]
                      refine ⟨fun _ => ?_, fun _ => rfl⟩
                      rcases y with y | y
                      · obtain ⟨j, j0, j1⟩ := a3.mp (a2.resolve_left y)
                        exact ⟨j, ⟨j0.1, (by omega)⟩, j1⟩
                      · exact ⟨(k : Int), ⟨by omega, by omega⟩, hg, hb.mp y⟩
                    · rw [if_neg y]
                      refine ⟨fun u => absurd u (by decide), fun ⟨j, j0, j1, j2⟩ => absurd ?_ y⟩
                      by_cases v : j = (k : Int)
                      · exact .inr (hb.mpr (v ▸ j2))
                      · refine .inl ?_
                        rw [a3.mpr ⟨j, ⟨j0.1, (by omega)⟩, j1, j2⟩]
                        decide
                · obtain ⟨b1, b2, b3⟩ := hq d d0 d1
                  have hne : M 9 (k : Int) ≠ d := fun u => q (u.symm.trans hg)
                  rw [rh_set_j q, rh_set_j q, e3, rh_set_j q, rh_set_j q]
                  refine ⟨by rw [b1]; simp only [nct]; rw [if_neg hne]; omega, b2, b3.trans ⟨fun ⟨j, j0, j1⟩ => ⟨j, ⟨j0.1, (by omega)⟩, j1⟩, fun ⟨j, j0, j1⟩ => ⟨j, ⟨j0.1, ?_⟩, j1⟩⟩⟩
                  by_cases v : j = (k : Int)
                  · exact absurd (v ▸ j1.1) hne
                  · omega
            · rw [← eK]
              have hne0 : M 9 (k : Int) = -1 := Classical.not_not.mp z
              refine ih2 _ (by omega) (k + 1) _ rfl (by omega) f2 (fun d d0 d1 => ?_)
              obtain ⟨b1, b2, b3⟩ := hq d d0 d1
              have hne : M 9 (k : Int) ≠ d := (by omega)
              refine ⟨by rw [b1]; simp only [nct]; rw [if_neg hne]; omega, b2, b3.trans ⟨fun ⟨j, j0, j1⟩ => ⟨j, ⟨j0.1, (by omega)⟩, j1⟩, fun ⟨j, j0, j1⟩ => ⟨j, ⟨j0.1, ?_⟩, j1⟩⟩⟩
              by_cases v : j = (k : Int)
              · exact absurd (v ▸ j1.1) hne
              · omega
            · have hk2 : (W * H).toNat = k := (by omega)
              have hk : (k : Int) = W * H := (by omega)
              rw [hk2]
              have := hq d d0 d1
              rw [hk] at this
              exact this
        exact key2 _ 0 M' rfl hN0 f (fun c c0 c1 => ⟨(hj c c0 c1).1, .inl (hj c c0 c1).2, ⟨fun h => by rw [(hj c c0 c1).2] at h; exact absurd h (by decide), fun ⟨j, j0, j1⟩ => by omega⟩⟩)
  exact key _ 0 M rfl (by omega) c0 frx.rf (fun j j0 j1 => by omega)
theorem c_toWork (hm : rh_ms wm) {p : Int} (hp : 0 ≤ p ∧ p < 8) (M : rhM) (hN0 : 0 ≤ M 4 p * M 5 p) (hN : M 4 p * M 5 p ≤ 6144) :
    rC1 wm YX32_toWork 0 [(2, 0), (0, p)] M (fun r M' => r = 0 ∧ frx (fun a _ => a = 6) M M' ∧ ∀ k, 0 ≤ k → k < M 4 p * M 5 p → M' 6 k = M 3 (6144 * p + k)) := by
  refine rC1.of (by decide) (LE0 rfl) ?_
  refine rh1.of (rX32_toWork_0 hm _ _ ?_)
  have key : ∀ (v : Nat) (k : Int) (M' : rhM), (M 4 p * M 5 p - k).toNat = v → (0 ≤ k) → (k ≤ M 4 p * M 5 p) → (frx (fun a _ => a = 6) M M') → (∀ j, 0 ≤ j → j < k → M' 6 j = M 3 (6144 * p + j)) → rh1 wm YX32_toWork 0 2 [(0, 2, 0), (1, 0, p), (2, 0, k)] [] M' (fun r M' => r = 0 ∧ frx (fun a _ => a = 6) M M' ∧ ∀ k, 0 ≤ k → k < M 4 p * M 5 p → M' 6 k = M 3 (6144 * p + k)) := by
    intro v
    induction v using Nat.strongRecOn with
    | ind v ih =>
      intro k M' hv k0 k1 f hj
      refine rh1.of (rX32_toWork_2 hm _ _ _ ?_)
      rw [f 4 p (by omega), f 5 p (by omega), f 3 _ (by omega)]
      refine ⟨hp, hp, ⟨by omega, by omega⟩, fun c => ⟨⟨by omega, by omega⟩, ⟨by omega, by omega⟩, ⟨by omega, by omega⟩, ih _ (by omega) (k + 1) _ rfl (by omega) (by omega) (f.st rfl) (fun j j0 j1 => ?_)⟩, fun c => ⟨rfl, f, fun j j0 j1 => hj j j0 (by omega)⟩⟩
      by_cases q : j = k
      · rw [q, rh_set_s]
      · rw [rh_set_j q]; exact hj j j0 (by omega)
  exact key _ 0 M rfl (by omega) hN0 frx.rf (fun j j0 j1 => by omega)
/-- which pixels go -/
def kil (m sz : Int) (lab ar ed : Int → Int) (k : Int) : Prop := lab k ≠ -1 ∧ (m = 2 → ed (lab k) ≠ 0) ∧ (m ≠ 2 → ar (lab k) < sz ∧ (m = 0 ∨ ed (lab k) = 0))
theorem op_clean (hh : rh_hs wh) (hm : rh_ms wm) {Mh Mm : rhM} (R : Rpg Mh Mm) (x1 x2 x3 x4 : Int) : rC2 wh YX1_clean 3 [(2, 0), (0, x1), (0, x2), (0, x3), (0, x4)] Mh wm YX32_clean 3 [(2, 0), (0, x1), (0, x2), (0, x3), (0, x4)] Mm (fun r M' r2 M2' => r = r2 ∧ Pres Mh Mm M' M2') := by
  refine rC2.of (by decide) (LE0 rfl) (by decide) (LE0 rfl) ?_
  have e4 : ∀ j, rh_set Mm 0 0 0 4 j = Mm 4 j := fun j => rh_set_a (by decide)
  have e5 : ∀ j, rh_set Mm 0 0 0 5 j = Mm 5 j := fun j => rh_set_a (by decide)
  have f0 : frx Gw Mm (rh_set Mm 0 0 0) := frx.rf.st (by unfold Gw; omega)
  have hc : ((¬ ((0 ≤ x1 ∧ x1 ≤ 7) ∧ Mh (251 + 39 * x1) 3 ≠ 0)) ∨ (¬ (0 ≤ x2 ∧ x2 ≤ 7))) ↔ ((¬ ((0 ≤ x1 ∧ x1 ≤ 7) ∧ 0 < rh_set Mm 0 0 0 4 x1)) ∨ (¬ (0 ≤ x2 ∧ x2 ≤ 7))) := by
    rw [e4]
    by_cases h : 0 ≤ x1 ∧ x1 ≤ 7
    · have := (R x1 (by omega) (by omega)).2
      omega
    · omega
  refine rh2.l (rX1_clean_0 hh _ _ _ _ _ ?_)
  refine ⟨(by omega), fun c => ?_, fun c => ⟨fun c2 => ?_, fun c2 => ?_⟩⟩
  · refine rh1.of (rX32_clean_0 hm _ _ _ _ _ ?_)
    exact ⟨(by omega), fun _ => ⟨rfl, .inl ⟨frx.rf, f0⟩⟩, fun d => absurd (hc.mp c) d⟩
  · refine rh1.of (rX32_clean_0 hm _ _ _ _ _ ?_)
    exact ⟨(by omega), fun d => absurd (hc.mpr d) c, fun d => ⟨fun _ => ⟨rfl, .inl ⟨frx.rf, f0⟩⟩, fun d2 => absurd c2 d2⟩⟩
  have hp : 0 ≤ x1 ∧ x1 < 8 := ⟨by omega, by omega⟩
  have hq : 0 ≤ x2 ∧ x2 < 8 := ⟨by omega, by omega⟩
  refine ⟨hp, ?_⟩
  refine rh2.r (rX32_clean_0 hm _ _ _ _ _ ?_)
  refine ⟨(by omega), fun d => absurd (hc.mpr d) c, fun d => ⟨fun d2 => absurd d2 c2, fun _ => ?_⟩⟩
  have hm3 : 0 ≤ x3 ∧ x3 ≤ 2 := ⟨by omega, by omega⟩
  replace hc := Hid.mk hc
  replace c := Hid.mk c
  replace c2 := Hid.mk c2
  replace d := Hid.mk d
  obtain ⟨R1, -⟩ := R x1 hp.1 hp.2
  obtain ⟨a1, a2, a3, a4, a5, a6, a7, a8, a9, a10⟩ := R1
  have hx1 : 0 < Mm 4 x1 := by
    have h1 := c.out
    have := (R x1 hp.1 hp.2).2
    omega
  replace a9 := Hid.mk a9
  generalize hWW : Mm 4 x1 = W at *
  generalize hHH : Mm 5 x1 = H at *
  -- the house: find, take
  have hnb : rh_if (x3 = 1) (4 : Int) 8 = 4 ∨ rh_if (x3 = 1) (4 : Int) 8 = 8 := by rw [rh_if]; split <;> simp
  obtain ⟨r, M1, E1, -, f1, P1⟩ := c_find hh (b := rh_if (x3 ≠ 1) (1 : Int) 0) (hs_pgs hh hp.1 hp.2) (fun a b0 b1 => ⟨(by omega), (by omega)⟩) Mh a1 a2 a3 a4 a6 a7 a8 hnb
  replace hnb := Hid.mk hnb
  refine rh2.sl (vX1_clean_81 hh E1 (LE0 rfl)) ?_
  refine rh2.l (rX1_clean_84 hh _ _ _ _ _ (hs_pg hh hp.1 hp.2) ?_)
  have w1 : M1 (251 + 39 * x1) 1 = W := by rw [f1 _ _ (by omega), a1]
  have w2 : M1 (251 + 39 * x1) 2 = H := by rw [f1 _ _ (by omega), a2]
  have E2 := c_take hh (hs_sh hh) (hs_pgs hh hp.1 hp.2) (by omega) M1 (by rw [w1, w2]; exact a7) (by rw [w1, w2]; exact a8)
  refine rh2.sl (vX1_clean_90 (hs_sh hh) E2 (LE0 rfl)) ?_
  rw [w1, w2]
  generalize hM2 : rh_cpy (rh_set (rh_set M1 8 1 W) 8 2 H) (251 + 39 * x1 + 1) 0 (8 + 1) 0 (W * H) = M2
  have f2 : frx (fun a _ => a = 8 ∨ a = 9) M1 M2 := by
    rw [← hM2]; exact ((frx.rf.st (.inl rfl)).st (.inl rfl)).cpy (fun j _ _ => .inr rfl)
  have s1 : M2 8 1 = W := by rw [← hM2]; simp [rh_cpy, rh_sets]
  have s2 : M2 8 2 = H := by rw [← hM2]; simp [rh_cpy, rh_sets]
  have s9 : ∀ k, 0 ≤ k → k < W * H → M2 9 k = Mh (251 + 39 * x1 + 1) k := fun k k0 k1 => by
    rw [← hM2]
    unfold rh_cpy
    rw [if_pos (by decide), if_pos ⟨k0, (by omega)⟩, rh_set_a (by omega), rh_set_a (by omega), f1 _ _ (by omega)]
    congr 1
    omega
  refine rh2.l (rX1_clean_93 hh _ _ _ _ _ (hs_pg hh hp.1 hp.2) ?_)
  -- the model: inkOf, labelAll, measureSets, toWork
  obtain ⟨r, N1, D1, -, g1, g17, g18, g11⟩ := c_inkOf hm hp (rh_set Mm 0 0 0) (by rw [e4, e5, hWW, hHH]; exact a7) (by rw [e4, e5, hWW, hHH]; exact a8)
  rw [e4, hWW] at g17
  rw [e5, hHH] at g18
  rw [e4, e5, hWW, hHH] at g11
  refine rh2.sr (vX32_clean_54 hm D1 (LE0 rfl)) ?_
  refine rh2.r (rX32_clean_57 hm _ _ _ _ _ ?_)
  obtain ⟨r, N2, D2, -, g2, L2, cb2⟩ := c_labelAll hm (b := rh_if (x3 ≠ 1) (1 : Int) 0) (eb := rh_if (x3 ≠ 1) (1 : Int) 0) N1 g17 g18 a3 a4 a6 a7 a8
  refine rh2.sr (vX32_clean_78 hm D2 (LE0 rfl)) ?_
  refine rh2.r (rX32_clean_81 hm _ _ _ _ _ ?_)
  obtain ⟨r, N3, D3, -, g3, P3⟩ := c_measureSets hm N2 (by rw [g2 _ _ (by omega), g17]) (by rw [g2 _ _ (by omega), g18]) a3 a4 a6 a7 a8 L2 cb2
  refine rh2.sr (vX32_clean_82 hm D3 (LE0 rfl)) ?_
  refine rh2.r (rX32_clean_85 hm _ _ _ _ _ ?_)
  have k4 : N3 4 x1 = W := by rw [g3 _ _ (by omega), g2 _ _ (by omega), g1 _ _ (by omega), e4, hWW]
  have k5 : N3 5 x1 = H := by rw [g3 _ _ (by omega), g2 _ _ (by omega), g1 _ _ (by omega), e5, hHH]
  obtain ⟨r, N4, D4, -, g4, h6⟩ := c_toWork hm hp N3 (by rw [k4, k5]; exact a7) (by rw [k4, k5]; exact a8)
  rw [k4, k5] at h6
  refine rh2.sr (vX32_clean_87 hm D4 (LE0 rfl)) ?_
  refine rh2.r (rX32_clean_90 hm _ _ _ _ ?_)
  have h6' : ∀ k, 0 ≤ k → k < W * H → N4 6 k = Mm 3 (6144 * x1 + k) := fun k k0 k1 => by
    rw [h6 k k0 k1, g3 _ _ (by omega), g2 _ _ (by omega), g1 _ _ (by omega), rh_set_a (by omega)]
  have F4 : frx Gw Mm N4 := (((f0.tr (g1.w (fun a j h => by unfold Gw; omega))).tr (g2.w (fun a j h => by unfold Gw; omega))).tr (g3.w (fun a j h => by unfold Gw; omega))).tr (g4.w (fun a j h => by unfold Gw; omega))
  have F2 : frx Hw Mh M2 := (f1.w (fun a j h => by unfold Hw; omega)).tr (f2.w (fun a j h => by unfold Hw; omega))
  have n17 : N4 0 17 = W := by rw [g4 _ _ (by omega), g3 _ _ (by omega), g2 _ _ (by omega), g17]
  have n18 : N4 0 18 = H := by rw [g4 _ _ (by omega), g3 _ _ (by omega), g2 _ _ (by omega), g18]
  have n9 : N4 9 = N2 9 := by rw [g4.cell (a := 9) (fun j => (by omega)), g3.cell (a := 9) (fun j => (by omega))]
  have n12 : N4 12 = N3 12 := g4.cell (fun j => (by omega))
  have n13 : N4 13 = N3 13 := g4.cell (fun j => (by omega))
  have m11 : M2 11 = M1 11 := f2.cell (fun j => (by omega))
  have m12 : M2 12 = M1 12 := f2.cell (fun j => (by omega))
  have m13 : M2 13 = M1 13 := f2.cell (fun j => (by omega))
  -- the same labels
  have PP : Lb W (W * H) (fun k => N1 11 k = rh_if (x3 ≠ 1) (1 : Int) 0) (rh_if (x3 ≠ 1) (1 : Int) 0 ≠ 0) (M1 11) (M1 10 4) := by
    refine (P1.1.cols (fun k hk => ?_)).eight ?_
    · unfold hcol
      rw [(a10 k hk.1 hk.2).1, g11 k hk, rh_ifd, rh_set_a (by decide)]
    · by_cases z : x3 = 1
      · rw [rh_if_t z, rh_if_f (fun y => y z)]; decide
      · rw [rh_if_f z, rh_if_t z]; decide
  have q1 := PP.one P3.1
  have q2 := PP.nums P3.1
  have q3 : ∀ d, 0 ≤ d → d < N2 0 19 → M1 12 d = N3 12 d ∧ (M1 13 d = 0 ↔ N3 13 d = 0) := fun d d0 d1 => by
    obtain ⟨b1, b2, b3⟩ := P1.2.2 d d0 (by omega)
    obtain ⟨b4, b5, b6⟩ := P3.2.2 d d0 d1
    refine ⟨by rw [b1, b4]; exact nct_cg _ (fun j j0 j1 => by rw [q1 j ⟨j0, (by omega)⟩]), ?_⟩
    have b7 : M1 13 d = 1 ↔ N3 13 d = 1 := b3.trans (Iff.trans ⟨fun ⟨k, k0, k1, k2⟩ => ⟨k, k0, by rw [← q1 k k0]; exact k1, k2⟩, fun ⟨k, k0, k1, k2⟩ => ⟨k, k0, by rw [q1 k k0]; exact k1, k2⟩⟩ b6.symm)
    clear b3 b6
    omega
  have q4 : ∀ k, 0 ≤ k → k < W * H → (N2 9 k = -1 ↔ ¬ (Mm 3 (6144 * x1 + k) < 128 ↔ x3 ≠ 1)) ∧ -1 ≤ N2 9 k ∧ N2 9 k < N2 0 19 := fun k k0 k1 => by
    obtain ⟨b1, b2⟩ := P3.1.1 k ⟨k0, k1⟩
    refine ⟨b1.trans (not_congr ?_), b2⟩
    show N1 11 k = _ ↔ _
    rw [g11 k ⟨k0, k1⟩, rh_set_a (by decide)]
    by_cases z : x3 = 1
    · rw [rh_if_f (fun y => y z)]
      split
      · rename_i h; exact ⟨fun y => absurd y (by decide), fun y => absurd z (y.mp h)⟩
      · rename_i h; exact ⟨fun _ => ⟨fun y => absurd y h, fun y => absurd z y⟩, fun _ => rfl⟩
    · rw [rh_if_t z]
      split
      · rename_i h; exact ⟨fun _ => ⟨fun _ => z, fun _ => h⟩, fun _ => rfl⟩
      · rename_i h; exact ⟨fun y => absurd y (by decide), fun y => absurd (y.mpr z) h⟩
  have q5 : N2 0 19 ≤ W * H := cb2
  replace q1 := Hid.mk q1
  replace q3 := Hid.mk q3
  replace q4 := Hid.mk q4
  replace P1 := Hid.mk P1
  replace P3 := Hid.mk P3
  replace PP := Hid.mk PP
  replace L2 := Hid.mk L2
  generalize hvv : rh_if (x3 = 1) (0 : Int) 255 = vv
  have hv2 : (vv = 0 ∨ vv = 255) ∧ rh_and (rh_i2b vv) 255 = vv := by
    rw [← hvv, rh_if]; split
    · exact ⟨.inl rfl, by decide⟩
    · exact ⟨.inr rfl, by decide⟩
  replace hv2 := Hid.mk hv2
  have key : ∀ (v : Nat) (k n : Int) (M' N' : rhM), (W * H - k).toNat = v → (0 ≤ k) → (k ≤ W * H) → (0 ≤ n) → (n ≤ k) → (frx (fun a _ => a = 9) M2 M') → (frx (fun a _ => a = 6) N4 N') → (∀ j, 0 ≤ j → j < W * H → rh_and (M' 9 j) 255 = N' 6 j ∧ 0 ≤ N' 6 j ∧ N' 6 j ≤ 255 ∧ (k ≤ j → N' 6 j = Mm 3 (6144 * x1 + j))) → rh2 wh YX1_clean 3 99 [(0, 2, 0), (2, 0, x2), (3, 0, x3), (4, 0, x4), (5, 2, 251 + 39 * x1), (6, 0, n), (7, 0, k)] [] M' wm YX32_clean 3 96 [(0, 2, 0), (2, 0, x2), (3, 0, x3), (4, 0, x4), (5, 0, n), (6, 0, k)] [] N' (fun r M' r2 M2' => r = r2 ∧ Pres Mh Mm M' M2') := by
    intro v
    induction v using Nat.strongRecOn with
    | ind v ih =>
      intro k n M' N' hv k0 k1 n0 n1 f g hs
      replace hs := Hid.mk hs
      have l9 : N' 9 = N2 9 := (g.cell (fun j => (by omega))).trans n9
      have l12 : N' 12 = N3 12 := (g.cell (fun j => (by omega))).trans n12
      have l13 : N' 13 = N3 13 := (g.cell (fun j => (by omega))).trans n13
      have l17 : N' 0 17 = W := by rw [g _ _ (by omega), n17]
      have l18 : N' 0 18 = H := by rw [g _ _ (by omega), n18]
      have u1 : M' (251 + 39 * x1) 1 = W := by rw [f _ _ (by omega), f2 _ _ (by omega), w1]
      have u2 : M' (251 + 39 * x1) 2 = H := by rw [f _ _ (by omega), f2 _ _ (by omega), w2]
      have u11 : M' 11 = M1 11 := (f.cell (fun j => (by omega))).trans m11
      have u12 : M' 12 = M1 12 := (f.cell (fun j => (by omega))).trans m12
      have u13 : M' 13 = M1 13 := (f.cell (fun j => (by omega))).trans m13
      by_cases c : k < W * H
      · have q1k := q1.out k ⟨k0, c⟩
        obtain ⟨q4k, ql0, ql1⟩ := q4.out k k0 c
        obtain ⟨hs1, hs2, hs3, hs4⟩ := hs.out k k0 c
        have hs4 := hs4 (Int.le_refl k)
        -- one step of the model
        have mstep : ∀ {Lh : rhL} {Mh' : rhM} {P : Int → rhM → Int → rhM → Prop}, (kil x3 x4 (N2 9) (N3 12) (N3 13) k → rh2 wh YX1_clean 3 99 Lh [] Mh' wm YX32_clean 3 96 [(0, 2, 0), (2, 0, x2), (3, 0, x3), (4, 0, x4), (5, 0, n + 1), (6, 0, k + 1)] [] (rh_set N' 6 k vv) P) → (¬ kil x3 x4 (N2 9) (N3 12) (N3 13) k → rh2 wh YX1_clean 3 99 Lh [] Mh' wm YX32_clean 3 96 [(0, 2, 0), (2, 0, x2), (3, 0, x3), (4, 0, x4), (5, 0, n), (6, 0, k + 1)] [] N' P) → rh2 wh YX1_clean 3 99 Lh [] Mh' wm YX32_clean 3 96 [(0, 2, 0), (2, 0, x2), (3, 0, x3), (4, 0, x4), (5, 0, n), (6, 0, k)] [] N' P := by
          intro Lh Mh' P T1 T2
          refine rh2.r (rX32_clean_96 hm _ _ _ _ _ _ ?_)
          rw [l17, l18, l9, l12, l13, hvv]
          refine ⟨⟨by omega, by omega⟩, fun _ => ⟨⟨by omega, by omega⟩, fun z => ⟨fun m2 => ⟨⟨by omega, by omega⟩, fun b eb => ⟨fun bb => ⟨⟨by omega, by omega⟩, ⟨by omega, by omega⟩, ⟨by omega, by omega⟩, T1 ?_⟩, fun bb => ⟨⟨by omega, by omega⟩, T2 ?_⟩⟩⟩, fun m2 => ⟨⟨by omega, by omega⟩, fun _ _ => ⟨by omega, by omega⟩, fun b eb => ⟨fun bb => ⟨⟨by omega, by omega⟩, ⟨by omega, by omega⟩, ⟨by omega, by omega⟩, T1 ?_⟩, fun bb => ⟨⟨by omega, by omega⟩, T2 ?_⟩⟩⟩⟩, fun z b eb => ⟨fun bb => absurd eb bb, fun bb => ⟨⟨by omega, by omega⟩, T2 (fun y => z y.1)⟩⟩⟩, fun d => absurd c d⟩
          · refine ⟨z, fun _ y => bb ?_, fun y => absurd m2 y⟩
            rw [eb, rh_if_f (fun w => w y)]
          · intro y
            refine bb ?_
            rw [eb, rh_if_t (y.2.1 m2)]
            decide
          · refine ⟨z, fun y => absurd y m2, fun _ => ?_⟩
            by_cases y : N3 12 (N2 9 k) < x4
            · refine ⟨y, ?_⟩
              by_cases y2 : x3 = 0
              · exact .inl y2
              · refine .inr (Classical.byContradiction (fun y3 => bb ?_))
                rw [eb, rh_if_t y, rh_if_f]
                intro y4
                rcases y4 with y4 | y4
                · omega
                · exact y3 y4
            · exact absurd (by rw [eb, rh_if_f y]) bb
          · intro y
            obtain ⟨-, -, y3⟩ := y
            obtain ⟨y4, y5⟩ := y3 m2
            refine bb ?_
            rw [eb, rh_if_t y4, rh_if_t (by rcases y5 with y5 | y5; exact .inl (by omega); exact .inr y5)]
            decide
        have hkk : kil x3 x4 (M1 11) (M1 12) (M1 13) k ↔ kil x3 x4 (N2 9) (N3 12) (N3 13) k := by
          unfold kil
          rw [q1k]
          by_cases y : N2 9 k = -1
          · exact ⟨fun z => absurd y z.1, fun z => absurd y z.1⟩
          · obtain ⟨y1, y2⟩ := q3.out (N2 9 k) (by omega) ql1
            rw [y1]
            exact and_congr Iff.rfl (and_congr (imp_congr Iff.rfl (not_congr y2)) (imp_congr Iff.rfl (and_congr Iff.rfl (or_congr Iff.rfl y2))))
        have hdif : kil x3 x4 (M1 11) (M1 12) (M1 13) k → rh_and (M' 9 k) 255 ≠ vv := by
          intro y z
          have y1 : N2 9 k ≠ -1 := by rw [← q1k]; exact y.1
          have y2 : Mm 3 (6144 * x1 + k) < 128 ↔ x3 ≠ 1 := Classical.not_not.mp (fun w => y1 (q4k.mpr w))
          rw [hs1, hs4] at z
          by_cases w : x3 = 1
          · rw [rh_if_t w] at hvv
            omega
          · rw [rh_if_f w] at hvv
            have := y2.mpr w
            omega
        -- one step of the house
        have hstep : ∀ {Lm : rhL} {Mm' : rhM} {P : Int → rhM → Int → rhM → Prop}, (kil x3 x4 (M1 11) (M1 12) (M1 13) k → rh2 wh YX1_clean 3 99 [(0, 2, 0), (2, 0, x2), (3, 0, x3), (4, 0, x4), (5, 2, 251 + 39 * x1), (6, 0, n + 1), (7, 0, k + 1)] [] (rh_set M' 9 k (rh_i2b vv)) wm YX32_clean 3 96 Lm [] Mm' P) → (¬ kil x3 x4 (M1 11) (M1 12) (M1 13) k → rh2 wh YX1_clean 3 99 [(0, 2, 0), (2, 0, x2), (3, 0, x3), (4, 0, x4), (5, 2, 251 + 39 * x1), (6, 0, n), (7, 0, k + 1)] [] M' wm YX32_clean 3 96 Lm [] Mm' P) → rh2 wh YX1_clean 3 99 [(0, 2, 0), (2, 0, x2), (3, 0, x3), (4, 0, x4), (5, 2, 251 + 39 * x1), (6, 0, n), (7, 0, k)] [] M' wm YX32_clean 3 96 Lm [] Mm' P := by
          intro Lm Mm' P T1 T2
          refine rh2.l (rX1_clean_99 hh _ _ _ _ _ _ _ (hs_pg hh hp.1 hp.2) ?_)
          rw [u1, u2, u11, u12, u13, hvv]
          have T1' : kil x3 x4 (M1 11) (M1 12) (M1 13) k → ∀ z : Int, z = vv → (0 ≤ k ∧ k < 6144) ∧ ∀ s : Int, s = n + rh_if (rh_and (M' 9 k) 255 ≠ z) (1 : Int) 0 → rI s ∧ (0 ≤ k ∧ k < 6144) ∧ rI (k + 1) ∧ rh2 wh YX1_clean 3 99 [(0, 2, 0), (2, 0, x2), (3, 0, x3), (4, 0, x4), (5, 2, 251 + 39 * x1), (6, 0, s), (7, 0, k + 1)] [] (rh_set M' 9 k (rh_i2b z)) wm YX32_clean 3 96 Lm [] Mm' P := by
            intro y z ez
            subst ez
            refine ⟨⟨by omega, by omega⟩, fun s es => ?_⟩
            rw [rh_if_t (hdif y)] at es
            subst es
            exact ⟨⟨by omega, by omega⟩, ⟨by omega, by omega⟩, ⟨by omega, by omega⟩, T1 y⟩
          refine ⟨⟨by omega, by omega⟩, fun _ => ⟨⟨by omega, by omega⟩, fun z => ⟨fun m2 => ⟨?_, fun b eb => ⟨fun bb => T1' ?_, fun bb => ⟨⟨by omega, by omega⟩, T2 ?_⟩⟩⟩, fun m2 => ⟨?_, fun _ _ => ?_, fun b eb => ⟨fun bb => T1' ?_, fun bb => ⟨⟨by omega, by omega⟩, T2 ?_⟩⟩⟩⟩, fun z b eb => ⟨fun bb => absurd eb bb, fun bb => ⟨⟨by omega, by omega⟩, T2 (fun y => z y.1)⟩⟩⟩, fun d => absurd c d⟩
          · rw [q1k] at z ⊢; exact ⟨by omega, by omega⟩
          · refine ⟨z, fun _ y => bb ?_, fun y => absurd m2 y⟩
            rw [eb, rh_if_f (fun w => w y)]
          · intro y
            refine bb ?_
            rw [eb, rh_if_t (y.2.1 m2)]
            decide
          · rw [q1k] at z ⊢; exact ⟨by omega, by omega⟩
          · rw [q1k] at z ⊢; exact ⟨by omega, by omega⟩
          · refine ⟨z, fun y => absurd y m2, fun _ => ?_⟩
            by_cases y : M1 12 (M1 11 k) < x4
            · refine ⟨y, ?_⟩
              by_cases y2 : x3 = 0 ∨ M1 13 (M1 11 k) = 0
              · exact y2
              · exact absurd (by rw [eb, rh_if_t y, rh_if_f y2]) bb
            · exact absurd (by rw [eb, rh_if_f y]) bb
          · intro y
            obtain ⟨-, -, y3⟩ := y
            obtain ⟨y4, y5⟩ := y3 m2
            refine bb ?_
            rw [eb, rh_if_t y4, rh_if_t y5]
            decide
        refine hstep (fun y => mstep (fun _ => ?_) (fun z => absurd (hkk.mp y) z)) (fun y => mstep (fun z => absurd (hkk.mpr z) y) (fun _ => ?_))
        · clear q4k
          refine ih _ (by omega) (k + 1) (n + 1) _ _ rfl (by omega) (by omega) (by omega) (by omega) (f.st rfl) (g.st rfl) (fun j j0 j1 => ?_)
          by_cases q : j = k
          · subst q
            rw [rh_set_s, rh_set_s]
            obtain ⟨v1, v2⟩ := hv2.out
            exact ⟨v2, (by omega), (by omega), fun w => by omega⟩
          · rw [rh_set_j q, rh_set_j q]
            obtain ⟨b1, b2, b3, b4⟩ := hs.out j j0 j1
            exact ⟨b1, b2, b3, fun w => b4 (by omega)⟩
        · clear q4k
          refine ih _ (by omega) (k + 1) n _ _ rfl (by omega) (by omega) (by omega) (by omega) f g (fun j j0 j1 => ?_)
          obtain ⟨b1, b2, b3, b4⟩ := hs.out j j0 j1
          exact ⟨b1, b2, b3, fun w => b4 (by omega)⟩
      · refine rh2.l (rX1_clean_99 hh _ _ _ _ _ _ _ (hs_pg hh hp.1 hp.2) ?_)
        rw [u1, u2]
        refine ⟨⟨by omega, by omega⟩, fun d => absurd d c, fun _ => ⟨hq, ?_⟩⟩
        refine rh2.r (rX32_clean_96 hm _ _ _ _ _ _ ?_)
        rw [l17, l18]
        refine ⟨⟨by omega, by omega⟩, fun d => absurd d c, fun _ => ?_⟩
        have t1 : M' 8 1 = W := by rw [f _ _ (by omega), s1]
        have t2 : M' 8 2 = H := by rw [f _ _ (by omega), s2]
        refine rh2.sl (vX1_clean_264 (hs_pg hh hq.1 hq.2) (c_lay hh (hs_pg hh hq.1 hq.2) (hs_sh hh) (by omega) M' (by rw [t1, t2]; exact a7) (by rw [t1, t2]; exact a8)) (LE0 rfl)) ?_
        refine rh2.sr (vX32_clean_220 hm (c_bec hm hq N' a7 a8) (LE0 rfl)) ?_
        refine rh2.l (rX1_clean_267 hh _ _ ?_)
        refine rh1.of (rX32_clean_223 hm _ _ ?_)
        refine ⟨rfl, .inr ⟨x2, hq, Laid.mk R hq (F2.tr (f.w (fun a j h => by unfold Hw; omega))) (F4.tr (g.w (fun a j h => by unfold Gw; omega))) ⟨t1, t2, a3, a4, a5, a6, a7, a8, a9.out, fun j j0 j1 => ?_⟩ hx1⟩⟩
        obtain ⟨b1, b2, b3, b4⟩ := hs.out j j0 j1
        exact ⟨b1, b2, b3⟩
  refine key _ 0 0 M2 N4 rfl (by omega) a7 (by omega) (by omega) frx.rf frx.rf (fun j j0 j1 => ?_)
  rw [s9 j j0 j1, h6' j j0 j1]
  obtain ⟨b1, b2, b3⟩ := a10 j j0 j1
  exact ⟨b1, b2, b3, fun _ => rfl⟩
end Clean
