/-! ===== LAYER 2: back, the operation ===== -/
section BackO
variable {wh wm : rhW}
theorem h_back1 (hh : rh_hs wh) {P : Int → rhM → Int → rhM → Prop} {w2 : rhW} {Y2 : rhY} {h2 pc2 : Nat} {L2 : rhL} {S2 : List rhA} {M2 : rhM} {x y x3 W H : Int} {M : rhM} (hx : rh_bl wh 0 x 0) (hy : rh_bl wh 0 y 0) (hW : M x 1 = W) (hH : M x 2 = H) (hW2 : M y 1 = W) (hH2 : M y 2 = H) (hW0 : 0 < W) (hWb : W ≤ 128) (hHb : H ≤ 96) (hN0 : 0 ≤ W * H) (hN : W * H ≤ 6144) (hf : ∀ k, 0 ≤ k → k < W * H → 0 ≤ rh_and (M (x + 1) k) 255 ∧ rh_and (M (x + 1) k) 255 ≤ 255) (hg : ∀ k, 0 ≤ k → k < W * H → 0 ≤ rh_and (M (y + 1) k) 255 ∧ rh_and (M (y + 1) k) 255 ≤ 255)
    (K : ∀ bx bY : Int, Best (scr (fun k => rh_and (M (x + 1) k) 255) (fun k => rh_and (M (y + 1) k) 255) W H) bx bY → rh2 wh YX1_back 3 261 [(0, 2, 0), (3, 0, x3), (4, 2, x), (5, 2, y), (8, 0, 5 * (bx + 2) + bY + 2), (9, 0, 0)] [] (rh_set (rh_set M 8 1 W) 8 2 H) w2 Y2 h2 pc2 L2 S2 M2 P) : rh2 wh YX1_back 3 66 [(0, 2, 0), (3, 0, x3), (4, 2, x), (5, 2, y), (6, 1, -1), (8, 0, 0), (9, 0, 0)] [] M w2 Y2 h2 pc2 L2 S2 M2 P := by
  replace K := Hid.mk K
  replace hf := Hid.mk hf
  replace hg := Hid.mk hg
  generalize hS : scr (fun k => rh_and (M (x + 1) k) 255) (fun k => rh_and (M (y + 1) k) 255) W H = S at K
  have hS0 : ∀ dx dy, ofs dx dy → 0 ≤ S dx dy := fun dx dy _ => by
    rw [← hS]
    exact (psc_b _ (scF_b hf.out hg.out)).1
  replace hS0 := Hid.mk hS0
  have key : ∀ (vq : Nat) (d c s : Int), (5 - d).toNat = vq → (0 ≤ d) → (d ≤ 5) → (Bst S (25 * d) c s) → rh2 wh YX1_back 3 66 [(0, 2, 0), (3, 0, x3), (4, 2, x), (5, 2, y), (6, 1, s), (8, 0, c), (9, 0, d)] [] M w2 Y2 h2 pc2 L2 S2 M2 P := by
    intro vq
    induction vq using Nat.strongRecOn with
    | ind vq ih =>
      intro d c s hvq d0 d1 B
      refine rh2.l (rX1_back_66 hh _ _ _ _ _ _ _ hx hy ?_)
      refine ⟨fun z => ?_, fun z => ?_⟩
      · have key2 : ∀ (vq : Nat) (i c s : Int), (25 - i).toNat = vq → (0 ≤ i) → (i ≤ 25) → (Bst S (25 * d + i) c s) → rh2 wh YX1_back 3 75 [(0, 2, 0), (3, 0, x3), (4, 2, x), (5, 2, y), (6, 1, s), (8, 0, c), (9, 0, d), (10, 0, i)] [] M w2 Y2 h2 pc2 L2 S2 M2 P := by
          intro vq
          induction vq using Nat.strongRecOn with
          | ind vq ih2 =>
            intro i c s hvq i0 i1 B
            have ha : ∀ z : Int, rh_if (0 ≤ z) z (0 - z) = ab z := fun z => by rw [rh_ifd]; rfl
            refine rh2.l (rX1_back_75 hh _ _ _ _ _ _ _ _ hx hy ?_)
            rw [ha, ha]
            refine ⟨fun q => ?_, fun q => ⟨⟨by omega, by omega⟩, ih _ (by omega) (d + 1) c s rfl (by omega) (by omega) (by rw [show 25 * (d + 1) = 25 * d + i by omega]; exact B)⟩⟩
            have ho : ofs (i % 5 - 2) (i / 5 - 2) := ⟨⟨by omega, by omega⟩, ⟨by omega, by omega⟩⟩
            have b1 := ab_b ho.1
            have b2 := ab_b ho.2
            have hk : ky (i % 5 - 2) (i / 5 - 2) = 25 * (ab (i % 5 - 2) + ab (i / 5 - 2)) + i := by unfold ky; omega
            refine ⟨⟨by omega, by omega⟩, ⟨by omega, by omega⟩, ⟨by omega, by omega⟩, ⟨by omega, by omega⟩, ⟨by omega, by omega⟩, ⟨by omega, by omega⟩, ⟨by omega, by omega⟩, fun e => ?_, fun e => ⟨⟨by omega, by omega⟩, ih2 _ (by omega) (i + 1) c s rfl (by omega) (by omega) ?_⟩⟩
            · rw [e] at hk
              have key3 : ∀ (vq : Nat) (k : Nat), (W * H - k).toNat = vq → ((k : Int) ≤ W * H) → rh2 wh YX1_back 3 120 [(0, 2, 0), (3, 0, x3), (4, 2, x), (5, 2, y), (6, 1, s), (8, 0, c), (9, 0, d), (10, 0, i), (11, 0, i / 5 - 2), (12, 0, i % 5 - 2), (13, 1, psc (scF (fun k => rh_and (M (x + 1) k) 255) (fun k => rh_and (M (y + 1) k) 255) W H (i % 5 - 2) (i / 5 - 2)) k), (15, 0, (k : Int))] [] M w2 Y2 h2 pc2 L2 S2 M2 P := by
                intro vq
                induction vq using Nat.strongRecOn with
                | ind vq ih3 =>
                  intro k hvq k1
                  have pb := psc_b (F := scF (fun k => rh_and (M (x + 1) k) 255) (fun k => rh_and (M (y + 1) k) 255) W H (i % 5 - 2) (i / 5 - 2)) k (fun j j0 j1 => scF_b hf.out hg.out j j0 (by omega))
                  refine rh2.l (rX1_back_120 hh _ _ _ _ _ _ _ _ _ _ _ _ hx hy ?_)
                  rw [hW, hH]
                  refine ⟨⟨by omega, by omega⟩, fun q => ?_, fun q => ?_⟩
                  · have db := dm_b hW0 (show (0 : Int) ≤ (k : Int) by omega) q
                    have dmk := dm (k : Int) W
                    refine ⟨⟨by omega, by omega⟩, fun u eu => ⟨⟨by omega, by omega⟩, fun v ev => ?_⟩⟩
                    rw [← eu] at db dmk
                    rw [← ev] at db dmk
                    rw [← dmk]
                    have fb := hf.out (k : Int) (by omega) q
                    refine ⟨⟨by omega, by omega⟩, ⟨by omega, by omega⟩, ?_⟩
                    have E := c_behindH hh (u := u) (v := v) (dx := i % 5 - 2) (dy := i / 5 - 2) hy.page5 M hW2 hH2 hWb hHb hN db.1 db.2 ho
                    refine rh2.sl (vX1_back_179 E (LE0 rfl)) ?_
                    refine rh2.l (rX1_back_182 hh _ _ _ _ _ _ _ _ _ _ _ _ _ _ _ hx hy ?_)
                    have bb := bhv_b (g := fun k => rh_and (M (y + 1) k) 255) (W := W) (H := H) (u := u) (v := v) (dx := i % 5 - 2) (dy := i / 5 - 2) hg.out
                    have mb := mul255 fb bb
                    refine ⟨⟨by omega, by omega⟩, ⟨by omega, by omega⟩, ⟨by omega, by omega⟩, ?_⟩
                    have := ih3 _ (by omega) (k + 1) rfl (by omega)
                    simp only [psc, scF] at this
                    rw [← eu, ← ev] at this
                    exact this
                  · have hkk : psc (scF (fun k => rh_and (M (x + 1) k) 255) (fun k => rh_and (M (y + 1) k) 255) W H (i % 5 - 2) (i / 5 - 2)) k = S (i % 5 - 2) (i / 5 - 2) := by
                      rw [← hS]
                      unfold scr
                      rw [show (W * H).toNat = k by omega]
                    rw [hkk]
                    have cb : 0 ≤ 5 * (i % 5 - 2 + 2) + (i / 5 - 2) + 2 ∧ 5 * (i % 5 - 2 + 2) + (i / 5 - 2) + 2 ≤ 1000 := ⟨by omega, by omega⟩
                    intro n en
                    have hn : Bst S (25 * d + (i + 1)) n (rh_if (S (i % 5 - 2) (i / 5 - 2) < s) s (S (i % 5 - 2) (i / 5 - 2))) := by
                      rw [en, ← Int.add_assoc]
                      exact B.put hS0.out ho hk
                    have nb : rI n := by
                      rcases hn with ⟨b1, b2⟩ | ⟨bx, bY, b1, b2, -⟩
                      · rw [en, rh_ifd]
                        have := hS0.out _ _ ho
                        have : 12 ≤ ky (i % 5 - 2) (i / 5 - 2) := (ky_b ho).1
                        exfalso; omega
                      · exact ⟨(by omega), (by omega)⟩
                    refine ⟨nb, fun m em => ⟨⟨by omega, by omega⟩, ih2 _ (by omega) (i + 1) n m rfl (by omega) (by omega) (by rw [em]; exact hn)⟩⟩
              exact key3 _ 0 rfl hN0
            · have hT : 25 * d + i = 12 → False := fun e12 => by
                have : d = 0 ∧ i = 12 := ⟨by omega, by omega⟩
                rw [this.2] at e
                exact e (by rw [this.1]; decide)
              rw [← Int.add_assoc]
              refine B.skip (fun y => hT y) (fun dx dy hd hkk => ?_)
              have c1 := ab_b hd.1
              have c2 := ab_b hd.2
              unfold ky at hkk
              have e1 : i = 5 * (dy + 2) + dx + 2 ∧ ab dx + ab dy = d := by
                constructor <;> omega
              have e2 : i % 5 - 2 = dx ∧ i / 5 - 2 = dy := by omega
              rw [e2.1, e2.2] at e
              exact e e1.2
        exact key2 _ 0 c s rfl (by omega) (by omega) (by rw [Int.add_zero]; exact B)
      · have hd : d = 5 := (by omega)
        subst hd
        obtain ⟨bx, bY, b1, b2⟩ := Bst.fin (S := S) B
        rw [hW, hH, b2]
        exact K.out bx bY b1
  exact key _ 0 0 (-1) rfl (by omega) (by omega) (.inl ⟨rfl, by decide⟩)
def MBt (S : Int → Int → Int) (d bx bY s : Int) : Prop := (d = 0 ∧ s = -1) ∨ (ofs bx bY ∧ s = S bx bY ∧ ∀ dx dy, ofs dx dy → 5 * (dx + 2) + dy + 2 < d → S dx dy ≤ s ∧ (S dx dy = s → ky bx bY ≤ ky dx dy))
theorem MBt.new {S : Int → Int → Int} {d bx bY s dx dy : Int} (B : MBt S d bx bY s) (hd : ofs dx dy) (he : 5 * (dx + 2) + dy + 2 = d) (h : s < S dx dy ∨ (S dx dy = s ∧ ky dx dy < ky bx bY)) : MBt S (d + 1) dx dy (S dx dy) := by
  refine .inr ⟨hd, rfl, fun a b hb hc => ?_⟩
  by_cases q : 5 * (a + 2) + b + 2 = d
  · obtain ⟨rfl, rfl⟩ : a = dx ∧ b = dy := by omega
    exact ⟨Int.le_refl _, fun _ => Int.le_refl _⟩
  · rcases B with ⟨b1, b2⟩ | ⟨b1, b2, b3⟩
    · omega
    · have := b3 a b hb (by omega)
      rcases h with h | h
      · exact ⟨(by omega), fun e => by omega⟩
      · refine ⟨(by omega), fun e => ?_⟩
        have := this.2 (by omega)
        omega
theorem MBt.old {S : Int → Int → Int} {d bx bY s dx dy : Int} (B : MBt S d bx bY s) (hs : 0 ≤ S dx dy) (hd : ofs dx dy) (he : 5 * (dx + 2) + dy + 2 = d) (h : S dx dy < s ∨ (S dx dy = s ∧ ky bx bY ≤ ky dx dy)) : MBt S (d + 1) bx bY s := by
  rcases B with ⟨b1, b2⟩ | ⟨b1, b2, b3⟩
  · omega
  · refine .inr ⟨b1, b2, fun a b hb hc => ?_⟩
    by_cases q : 5 * (a + 2) + b + 2 = d
    · obtain ⟨rfl, rfl⟩ : a = dx ∧ b = dy := by omega
      rcases h with h | h
      · exact ⟨(by omega), fun e => by omega⟩
      · exact ⟨(by omega), fun _ => h.2⟩
    · exact b3 a b hb (by omega)
theorem m_back1 (hm : rh_ms wm) {P : Int → rhM → Int → rhM → Prop} {w1 : rhW} {Y1 : rhY} {h1 pc1 : Nat} {L1 : rhL} {S1 : List rhA} {M1 : rhM} {p q x3 W H : Int} {M : rhM} (hp : 0 ≤ p ∧ p < 8) (hq : 0 ≤ q ∧ q < 8) (hW2 : M 4 q = W) (hH2 : M 5 q = H) (hW0 : 0 < W) (hWb : W ≤ 128) (hHb : H ≤ 96) (hN0 : 0 ≤ W * H) (hN : W * H ≤ 6144) (hf : ∀ k, 0 ≤ k → k < W * H → 0 ≤ M 3 (6144 * p + k) ∧ M 3 (6144 * p + k) ≤ 255) (hg : ∀ k, 0 ≤ k → k < W * H → 0 ≤ M 3 (6144 * q + k) ∧ M 3 (6144 * q + k) ≤ 255)
    (K : ∀ bx bY : Int, Best (scr (fun k => M 3 (6144 * p + k)) (fun k => M 3 (6144 * q + k)) W H) bx bY → rh2 w1 Y1 h1 pc1 L1 S1 M1 wm YX32_back 3 241 [(0, 2, 0), (1, 0, p), (2, 0, q), (3, 0, x3), (4, 0, W), (5, 0, H), (6, 0, bx), (7, 0, bY), (10, 0, 0)] [] M P) : rh2 w1 Y1 h1 pc1 L1 S1 M1 wm YX32_back 3 97 [(0, 2, 0), (1, 0, p), (2, 0, q), (3, 0, x3), (4, 0, W), (5, 0, H), (6, 0, 9), (7, 0, 9), (8, 1, -1), (10, 0, 0)] [] M P := by
  replace K := Hid.mk K
  replace hf := Hid.mk hf
  replace hg := Hid.mk hg
  generalize hS : scr (fun k => M 3 (6144 * p + k)) (fun k => M 3 (6144 * q + k)) W H = S at K
  have hS0 : ∀ dx dy, 0 ≤ S dx dy := fun dx dy => by
    rw [← hS]
    exact (psc_b _ (scF_b hf.out hg.out)).1
  have key : ∀ (vq : Nat) (d bx bY s : Int), (25 - d).toNat = vq → (0 ≤ d) → (d ≤ 25) → (MBt S d bx bY s) → rh2 w1 Y1 h1 pc1 L1 S1 M1 wm YX32_back 3 97 [(0, 2, 0), (1, 0, p), (2, 0, q), (3, 0, x3), (4, 0, W), (5, 0, H), (6, 0, bx), (7, 0, bY), (8, 1, s), (10, 0, d)] [] M P := by
    intro vq
    induction vq using Nat.strongRecOn with
    | ind vq ih =>
      intro d bx bY s hvq d0 d1 B
      replace B := Hid.mk B
      refine rh2.r (rX32_back_97 hm _ _ _ _ _ _ _ _ _ _ ?_)
      refine ⟨fun z => ⟨⟨by omega, by omega⟩, ⟨by omega, by omega⟩, ⟨by omega, by omega⟩, ⟨by omega, by omega⟩, ?_⟩, fun z => ?_⟩
      · have ho : ofs (d / 5 - 2) (d % 5 - 2) := ⟨⟨by omega, by omega⟩, ⟨by omega, by omega⟩⟩
        have he : 5 * (d / 5 - 2 + 2) + (d % 5 - 2) + 2 = d := (by omega)
        have key3 : ∀ (vq : Nat) (k : Nat), (W * H - k).toNat = vq → ((k : Int) ≤ W * H) → rh2 w1 Y1 h1 pc1 L1 S1 M1 wm YX32_back 3 126 [(0, 2, 0), (1, 0, p), (2, 0, q), (3, 0, x3), (4, 0, W), (5, 0, H), (6, 0, bx), (7, 0, bY), (8, 1, s), (10, 0, d), (11, 0, d / 5 - 2), (12, 0, d % 5 - 2), (13, 1, psc (scF (fun k => M 3 (6144 * p + k)) (fun k => M 3 (6144 * q + k)) W H (d / 5 - 2) (d % 5 - 2)) k), (15, 0, (k : Int))] [] M P := by
          intro vq
          induction vq using Nat.strongRecOn with
          | ind vq ih3 =>
            intro k hvq k1
            have pb := psc_b (F := scF (fun k => M 3 (6144 * p + k)) (fun k => M 3 (6144 * q + k)) W H (d / 5 - 2) (d % 5 - 2)) k (fun j j0 j1 => scF_b hf.out hg.out j j0 (by omega))
            refine rh2.r (rX32_back_126 hm _ _ _ _ _ _ _ _ _ _ _ _ _ _ ?_)
            refine ⟨⟨by omega, by omega⟩, fun w => ?_, fun w => ?_⟩
            · have db := dm_b hW0 (show (0 : Int) ≤ (k : Int) by omega) w
              have fb := hf.out (k : Int) (by omega) w
              refine ⟨⟨by omega, by omega⟩, ⟨by omega, by omega⟩, ⟨by omega, by omega⟩, ?_⟩
              refine rh2.sr (eS.fxl 7 (x := 255 - M 3 (6144 * p + k)) rfl ⟨by omega, by omega⟩ rfl) ?_
              have E := c_behindM hm (u := (k : Int) % W) (v := (k : Int) / W) (dx := d / 5 - 2) (dy := d % 5 - 2) hq M hW2 hH2 hWb hHb hN db.1 db.2 ho
              refine rh2.sr (vX32_back_175 hm E (LE0 rfl)) ?_
              refine rh2.r (rX32_back_178 hm _ _ _ _ _ _ _ _ _ _ _ _ _ _ _ _ _ ?_)
              have bb := bhv_b (g := fun k => M 3 (6144 * q + k)) (W := W) (H := H) (u := (k : Int) % W) (v := (k : Int) / W) (dx := d / 5 - 2) (dy := d % 5 - 2) hg.out
              have mb := mul255 fb bb
              refine ⟨⟨by omega, by omega⟩, ⟨by omega, by omega⟩, ?_⟩
              have := ih3 _ (by omega) (k + 1) rfl (by omega)
              simp only [psc, scF] at this
              exact this
            · have hkk : psc (scF (fun k => M 3 (6144 * p + k)) (fun k => M 3 (6144 * q + k)) W H (d / 5 - 2) (d % 5 - 2)) k = S (d / 5 - 2) (d % 5 - 2) := by
                rw [← hS]
                unfold scr
                rw [show (W * H).toNat = k by omega]
              rw [hkk]
              have s0 := hS0 (d / 5 - 2) (d % 5 - 2)
              refine ⟨fun y => ⟨fun y2 => ?_, fun y2 => ⟨⟨by omega, by omega⟩, ih _ (by omega) (d + 1) bx bY s rfl (by omega) (by omega) (B.out.old s0 ho he (.inl (by omega)))⟩⟩, fun y => ⟨⟨by omega, by omega⟩, ih _ (by omega) (d + 1) _ _ _ rfl (by omega) (by omega) (B.out.new ho he (.inl (by omega)))⟩⟩
              have hb : ofs bx bY := by
                rcases B.out with ⟨b1, b2⟩ | ⟨b1, b2, b3⟩
                · omega
                · exact b1
              refine rh2.sr (vX32_back_214 (c_nearer M ho hb hm) (LE0 rfl)) ?_
              refine rh2.r (rX32_back_217 hm _ _ _ _ _ _ _ _ _ _ _ _ _ _ ?_)
              refine ⟨⟨by omega, by omega⟩, ?_⟩
              by_cases u : ky (d / 5 - 2) (d % 5 - 2) < ky bx bY
              · rw [if_pos u, rh_if_t (by decide), rh_if_t (by decide), rh_if_t (by decide)]
                exact ih _ (by omega) (d + 1) _ _ _ rfl (by omega) (by omega) (B.out.new ho he (.inr ⟨y2, u⟩))
              · rw [if_neg u, rh_if_f (by decide), rh_if_f (by decide), rh_if_f (by decide)]
                exact ih _ (by omega) (d + 1) _ _ _ rfl (by omega) (by omega) (B.out.old s0 ho he (.inr ⟨y2, (by omega)⟩))
        exact key3 _ 0 rfl hN0
      · refine K.out bx bY ?_
        rcases B.out with ⟨b1, b2⟩ | ⟨b1, b2, b3⟩
        · omega
        · refine ⟨b1, fun dx dy hd => ?_⟩
          rw [← b2]
          exact b3 dx dy hd (by omega)
  exact key _ 0 9 9 (-1) rfl (by omega) (by omega) (.inl ⟨rfl, rfl⟩)
end BackO
