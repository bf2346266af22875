/-! ===== LAYER 2: the box of a part (hasColumns, findBox; hasPart, isPart) ===== -/
section Box
variable {wh wm : rhW}
def HV (I : Int → Int → Prop) (l t r b : Int) : Prop := (∀ u v, I u v → l ≤ u ∧ u < r ∧ t ≤ v ∧ v < b) ∧ (∃ u v, I u v ∧ u = l) ∧ (∃ u v, I u v ∧ v = t) ∧ (∃ u v, I u v ∧ u + 1 = r) ∧ (∃ u v, I u v ∧ v + 1 = b)
def Hx (I : Int → Int → Prop) (l t r b : Int) : Prop := ((∀ u v, ¬ I u v) ∧ 128 ≤ l ∧ 96 ≤ t ∧ r = 0 ∧ b = 0) ∨ HV I l t r b
variable {I : Int → Int → Prop} {l t r b : Int}
theorem HV.one {l' t' r' b' : Int} (h : HV I l t r b) (h' : HV I l' t' r' b') : l = l' ∧ t = t' ∧ r = r' ∧ b = b' := by
  obtain ⟨a0, ⟨u1, v1, a1, e1⟩, ⟨u2, v2, a2, e2⟩, ⟨u3, v3, a3, e3⟩, ⟨u4, v4, a4, e4⟩⟩ := h
  obtain ⟨b0, ⟨x1, y1, b1, g1⟩, ⟨x2, y2, b2, g2⟩, ⟨x3, y3, b3, g3⟩, ⟨x4, y4, b4, g4⟩⟩ := h'
  have := b0 _ _ a1
  have := b0 _ _ a2
  have := b0 _ _ a3
  have := b0 _ _ a4
  have := a0 _ _ b1
  have := a0 _ _ b2
  have := a0 _ _ b3
  have := a0 _ _ b4
  omega
theorem HV.cg {I' : Int → Int → Prop} (h : HV I l t r b) (e : ∀ u v, I u v ↔ I' u v) : HV I' l t r b := by
  have : I = I' := funext (fun u => funext (fun v => propext (e u v)))
  rw [← this]; exact h
theorem Hx.cg {I' : Int → Int → Prop} (h : Hx I l t r b) (e : ∀ u v, I u v ↔ I' u v) : Hx I' l t r b := by
  have : I = I' := funext (fun u => funext (fun v => propext (e u v)))
  rw [← this]; exact h
theorem Hx.add (h : Hx I l t r b) {u v : Int} (hu : 0 ≤ u ∧ u < 128) (hv : 0 ≤ v ∧ v < 96) : HV (fun a c => I a c ∨ (a = u ∧ c = v)) (if u < l then u else l) (if v < t then v else t) (if r < u + 1 then u + 1 else r) (if b < v + 1 then v + 1 else b) := by
  have me : (fun a c => I a c ∨ (a = u ∧ c = v)) u v := .inr ⟨rfl, rfl⟩
  rcases h with ⟨h0, h1, h2, h3, h4⟩ | ⟨a0, ⟨u1, v1, a1, e1⟩, ⟨u2, v2, a2, e2⟩, ⟨u3, v3, a3, e3⟩, ⟨u4, v4, a4, e4⟩⟩
  · rw [if_pos (by omega), if_pos (by omega), if_pos (by omega), if_pos (by omega)]
    refine ⟨fun a c hac => ?_, ⟨u, v, me, rfl⟩, ⟨u, v, me, rfl⟩, ⟨u, v, me, rfl⟩, ⟨u, v, me, rfl⟩⟩
    rcases hac with z | z
    · exact absurd z (h0 a c)
    · omega
  · refine ⟨fun a c hac => ?_, ?_, ?_, ?_, ?_⟩
    · have : (l ≤ a ∧ a < r ∧ t ≤ c ∧ c < b) ∨ (a = u ∧ c = v) := by
        rcases hac with z | z
        · exact .inl (a0 a c z)
        · exact .inr z
      have := a0 _ _ a1
      split <;> split <;> split <;> split <;> omega
    · by_cases q : u < l
      · rw [if_pos q]; exact ⟨u, v, me, rfl⟩
      · rw [if_neg q]; exact ⟨u1, v1, .inl a1, e1⟩
    · by_cases q : v < t
      · rw [if_pos q]; exact ⟨u, v, me, rfl⟩
      · rw [if_neg q]; exact ⟨u2, v2, .inl a2, e2⟩
    · by_cases q : r < u + 1
      · rw [if_pos q]; exact ⟨u, v, me, rfl⟩
      · rw [if_neg q]; exact ⟨u3, v3, .inl a3, e3⟩
    · by_cases q : b < v + 1
      · rw [if_pos q]; exact ⟨u, v, me, rfl⟩
      · rw [if_neg q]; exact ⟨u4, v4, .inl a4, e4⟩
/-- the black ones of some columns -/
def Ikc (ink : Int → Int) (W H a b : Int) : Int → Int → Prop := fun u v => (a ≤ u ∧ u < b) ∧ (0 ≤ v ∧ v < H) ∧ ink (W * v + u) ≠ 0
theorem c_hasColumns (hh : rh_hs wh) {x w W H a b l0 t0 r0 b0 : Int} {ink : Int → Int} (hx : rh_bl wh 0 x 0) (hy : rh_bl wh 1 (x + 9) 0) (hx2 : 100 ≤ x) (M : rhM) (hc : CtH M x w W H ink) (hW : 0 ≤ W) (hWb : W ≤ 128) (hHb : H ≤ 96) (hN : W * H ≤ 6144) (hw : 0 ≤ w ∧ w < 80) (ht : 0 ≤ t0 ∧ t0 < b0 ∧ b0 ≤ H) (h20 : M (x + 9 + 20) w = t0) (h22 : M (x + 9 + 22) w = b0) (hbox : ∀ u v, 0 ≤ u → u < W → 0 ≤ v → v < H → ink (W * v + u) ≠ 0 → (l0 ≤ u ∧ u < r0) ∧ (t0 ≤ v ∧ v < b0)) (ha : 0 ≤ a) (hb : b ≤ W) :
    rC1 wh YX16_hasColumns 1 [(2, 25), (0, a), (0, b)] M (fun r M' => frx (fun c j => c = 25 ∧ 11 ≤ j ∧ j ≤ 14) M M' ∧ r = rh_if (0 < M' 25 13) 1 0 ∧ Hx (Ikc ink W H a b) (M' 25 11) (M' 25 12) (M' 25 13) (M' 25 14)) := by
  refine rC1.of (by decide) (LE0 rfl) ?_
  have hbl : rh_bl wh 0 (M 25 0) 0 := by rw [hc.1]; exact hx
  refine rh1.of (rX16_hasColumns_0 hh _ _ _ ?_)
  refine ⟨hbl, ?_⟩
  rintro _ rfl
  have e1 : rh_set (rh_set (rh_set (rh_set M 25 11 128) 25 12 96) 25 13 0) 25 14 0 25 1 = w := by simp (disch := omega) only [rh_set_j, hc.2.1]
  rw [e1, hc.1]
  refine ⟨hw, ?_⟩
  have e2 : rh_set (rh_set (rh_set (rh_set M 25 11 128) 25 12 96) 25 13 0) 25 14 0 (x + 29) w = t0 := by simp (disch := omega) only [rh_set_a]; rw [show x + 29 = x + 9 + 20 by omega, h20]
  rw [e2]
  intro t9 et9
  rw [et9]
  clear et9 t9
  replace hbox := Hid.mk hbox
  generalize hM0 : rh_set (rh_set (rh_set (rh_set M 25 11 128) 25 12 96) 25 13 0) 25 14 0 = M0
  have f0 : frx (fun c j => c = 25 ∧ 11 ≤ j ∧ j ≤ 14) M M0 := by rw [← hM0]; exact (((frx.rf.st (by omega)).st (by omega)).st (by omega)).st (by omega)
  have g11 : M0 25 11 = 128 := by rw [← hM0]; simp (disch := omega) only [rh_set_j, rh_set_s]
  have g12 : M0 25 12 = 96 := by rw [← hM0]; simp (disch := omega) only [rh_set_j, rh_set_s]
  have g13 : M0 25 13 = 0 := by rw [← hM0]; simp (disch := omega) only [rh_set_j, rh_set_s]
  have g14 : M0 25 14 = 0 := by rw [← hM0]; simp (disch := omega) only [rh_set_s]
  have key : ∀ (vq : Nat) (y : Int) (M1 : rhM), (b0 - y).toNat = vq → (t0 ≤ y) → (y ≤ b0) → (frx (fun c j => c = 25 ∧ 11 ≤ j ∧ j ≤ 14) M M1) → (Hx (fun u v => Ikc ink W H a b u v ∧ v < y) (M1 25 11) (M1 25 12) (M1 25 13) (M1 25 14)) → rh1 wh YX16_hasColumns 1 42 [(0, 2, 25), (1, 0, a), (2, 0, b), (3, 2, x + 9), (4, 0, y)] [] M1 (fun r M' => frx (fun c j => c = 25 ∧ 11 ≤ j ∧ j ≤ 14) M M' ∧ r = rh_if (0 < M' 25 13) 1 0 ∧ Hx (Ikc ink W H a b) (M' 25 11) (M' 25 12) (M' 25 13) (M' 25 14)) := by
    intro vq
    induction vq using Nat.strongRecOn with
    | ind vq ih =>
      intro y M1 hvq y0 y1 f hX
      replace hX := Hid.mk hX
      refine rh1.of (rX16_hasColumns_42 hh _ _ _ _ _ hy ?_)
      rw [f 25 1 (by omega), hc.2.1, f (x + 9 + 22) w (by omega), h22]
      refine ⟨hw, fun c => ?_, fun c => ⟨f, rfl, ?_⟩⟩
      · have key2 : ∀ (vq : Nat) (u : Int) (M2 : rhM), (b - u).toNat = vq → (a ≤ u) → (frx (fun c j => c = 25 ∧ 11 ≤ j ∧ j ≤ 14) M M2) → (Hx (fun u' v => Ikc ink W H a b u' v ∧ (v < y ∨ (v = y ∧ u' < u))) (M2 25 11) (M2 25 12) (M2 25 13) (M2 25 14)) → rh1 wh YX16_hasColumns 1 59 [(0, 2, 25), (1, 0, a), (2, 0, b), (3, 2, x + 9), (4, 0, y), (5, 0, u)] [] M2 (fun r M' => frx (fun c j => c = 25 ∧ 11 ≤ j ∧ j ≤ 14) M M' ∧ r = rh_if (0 < M' 25 13) 1 0 ∧ Hx (Ikc ink W H a b) (M' 25 11) (M' 25 12) (M' 25 13) (M' 25 14)) := by
          intro vq
          induction vq using Nat.strongRecOn with
          | ind vq ih2 =>
            intro u M2 hvq u0 f2 hX2
            replace hX2 := Hid.mk hX2
            have hc2 : CtH M2 x w W H ink := hc.fx (f2 _ _ (by omega)) (f2 _ _ (by omega)) (f2 _ _ (by omega)) (f2.cell (fun j => (by omega))) (f2.cell (fun j => (by omega)))
            refine rh1.of (rX16_hasColumns_59 hh _ _ _ _ _ _ hy ?_)
            refine ⟨fun d => ?_, fun d => ⟨⟨by omega, by omega⟩, ih _ (by omega) (y + 1) M2 rfl (by omega) (by omega) f2 (hX2.out.cg (fun u' v => ?_))⟩⟩
            · refine rh1.s (vX16_hasColumns_70 hh (c_isInk hh hx M2 hc2 hW hN (u := u) (v := y) (by omega) (by omega) (by omega) (by omega)) (LE0 rfl)) ?_
              refine rh1.of (rX16_hasColumns_73 hh _ _ _ _ _ _ _ hy ?_)
              rw [propext if1_ne]
              refine ⟨fun e => ?_, fun e => ⟨⟨by omega, by omega⟩, ih2 _ (by omega) (u + 1) M2 rfl (by omega) f2 (hX2.out.cg (fun u' v => ?_))⟩⟩
              · have ad := hX2.out.add (u := u) (v := y) ⟨by omega, by omega⟩ ⟨by omega, by omega⟩
                refine fun v1 ev1 => ⟨⟨by omega, by omega⟩, ?_⟩
                try simp (disch := omega) only [rh_set_j]
                refine fun v2 ev2 => ?_
                rintro _ rfl
                try simp (disch := omega) only [rh_set_j]
                refine fun v3 ev3 => ⟨⟨by omega, by omega⟩, ?_⟩
                try simp (disch := omega) only [rh_set_j]
                refine fun v4 ev4 => ⟨⟨by omega, by omega⟩, ih2 _ (by omega) (u + 1) _ rfl (by omega) ((((f2.st (by omega)).st (by omega)).st (by omega)).st (by omega)) ?_⟩
                simp (disch := omega) only [rh_set_j, rh_set_s]
                rw [rh_ifd] at ev1 ev2 ev3 ev4
                rw [ev1, ev2, ev3, ev4]
                refine .inr (ad.cg (fun u' v => ⟨fun z => ?_, fun z => ?_⟩))
                · rcases z with z | z
                  · exact ⟨z.1, (by omega)⟩
                  · rw [z.1, z.2]; exact ⟨⟨⟨by omega, by omega⟩, ⟨by omega, by omega⟩, e⟩, (by omega)⟩
                · by_cases q : u' = u ∧ v = y
                  · exact .inr q
                  · exact .inl ⟨z.1, (by omega)⟩
              · refine ⟨fun z => ⟨z.1, (by omega)⟩, fun z => ⟨z.1, ?_⟩⟩
                by_cases q : u' = u ∧ v = y
                · exact absurd z.1.2.2 (by rw [q.1, q.2]; exact e)
                · omega
            · constructor
              · intro z; exact ⟨z.1, (by omega)⟩
              · intro z
                refine ⟨z.1, ?_⟩
                have := z.1.1
                omega
        refine key2 _ a M1 rfl (by omega) f (hX.out.cg (fun u' v => ⟨fun z => ⟨z.1, .inl z.2⟩, fun z => ⟨z.1, ?_⟩⟩))
        have := z.1.1
        omega
      · refine hX.out.cg (fun u' v => ⟨fun z => z.1, fun z => ⟨z, ?_⟩⟩)
        have := (hbox.out u' v (by have := z.1; omega) (by have := z.1; omega) z.2.1.1 z.2.1.2 z.2.2).2
        omega
  refine key _ t0 M0 rfl (by omega) (by omega) f0 (.inl ⟨fun u v z => ?_, ?_⟩)
  · have := (hbox.out u v (by have := z.1.1; omega) (by have := z.1.1; omega) z.1.2.1.1 z.1.2.1.2 z.1.2.2).2
    have := z.2
    omega
  · rw [g11, g12, g13, g14]; omega
theorem c_findBox (hm : rh_ms wm) {W H a b : Int} (M : rhM) (hW0 : M 0 17 = W) (hH0 : M 0 18 = H) (hW : 0 ≤ W) (hWb : W ≤ 128) (hHb : H ≤ 96) (hH : 0 ≤ H) (hN : W * H ≤ 6144) (ha : 0 ≤ a) (hb : b ≤ W) :
    rC1 wm YX32_findBox 1 [(2, 0), (0, a), (0, b)] M (fun r M' => frx (fun c j => c = 0 ∧ 84 ≤ j ∧ j ≤ 87) M M' ∧ r = rh_if (0 < M' 0 86) 1 0 ∧ Hx (Ikc (M 11) W H a b) (M' 0 84) (M' 0 85) (M' 0 86) (M' 0 87)) := by
  refine rC1.of (by decide) (LE0 rfl) ?_
  refine rh1.of (rX32_findBox_0 hm _ _ _ ?_)
  generalize hM0 : rh_set (rh_set (rh_set (rh_set M 0 84 999) 0 85 999) 0 86 0) 0 87 0 = M0
  have f0 : frx (fun c j => c = 0 ∧ 84 ≤ j ∧ j ≤ 87) M M0 := by rw [← hM0]; exact (((frx.rf.st (by omega)).st (by omega)).st (by omega)).st (by omega)
  have g11 : M0 0 84 = 999 := by rw [← hM0]; simp (disch := omega) only [rh_set_j, rh_set_s]
  have g12 : M0 0 85 = 999 := by rw [← hM0]; simp (disch := omega) only [rh_set_j, rh_set_s]
  have g13 : M0 0 86 = 0 := by rw [← hM0]; simp (disch := omega) only [rh_set_j, rh_set_s]
  have g14 : M0 0 87 = 0 := by rw [← hM0]; simp (disch := omega) only [rh_set_s]
  have key : ∀ (vq : Nat) (u : Int) (M1 : rhM), (b - u).toNat = vq → (a ≤ u) → (frx (fun c j => c = 0 ∧ 84 ≤ j ∧ j ≤ 87) M M1) → (Hx (fun u' v => Ikc (M 11) W H a b u' v ∧ u' < u) (M1 0 84) (M1 0 85) (M1 0 86) (M1 0 87)) → rh1 wm YX32_findBox 1 26 [(0, 2, 0), (2, 0, b), (3, 0, u)] [] M1 (fun r M' => frx (fun c j => c = 0 ∧ 84 ≤ j ∧ j ≤ 87) M M' ∧ r = rh_if (0 < M' 0 86) 1 0 ∧ Hx (Ikc (M 11) W H a b) (M' 0 84) (M' 0 85) (M' 0 86) (M' 0 87)) := by
    intro vq
    induction vq using Nat.strongRecOn with
    | ind vq ih =>
      intro u M1 hvq u0 f hX
      replace hX := Hid.mk hX
      refine rh1.of (rX32_findBox_26 hm _ _ _ ?_)
      refine ⟨fun c => ?_, fun c => ⟨f, rfl, ?_⟩⟩
      · have key2 : ∀ (vq : Nat) (y : Int) (M2 : rhM), (H - y).toNat = vq → (0 ≤ y) → (frx (fun c j => c = 0 ∧ 84 ≤ j ∧ j ≤ 87) M M2) → (Hx (fun u' v => Ikc (M 11) W H a b u' v ∧ (u' < u ∨ (u' = u ∧ v < y))) (M2 0 84) (M2 0 85) (M2 0 86) (M2 0 87)) → rh1 wm YX32_findBox 1 34 [(0, 2, 0), (2, 0, b), (3, 0, u), (4, 0, y)] [] M2 (fun r M' => frx (fun c j => c = 0 ∧ 84 ≤ j ∧ j ≤ 87) M M' ∧ r = rh_if (0 < M' 0 86) 1 0 ∧ Hx (Ikc (M 11) W H a b) (M' 0 84) (M' 0 85) (M' 0 86) (M' 0 87)) := by
          intro vq
          induction vq using Nat.strongRecOn with
          | ind vq ih2 =>
            intro y M2 hvq y0 f2 hX2
            replace hX2 := Hid.mk hX2
            have m11 : M2 11 = M 11 := f2.cell (fun j => (by omega))
            refine rh1.of (rX32_findBox_34 hm _ _ _ _ ?_)
            rw [f2 0 17 (by omega), f2 0 18 (by omega), hW0, hH0, m11, Int.mul_comm y W]
            refine ⟨fun d => ?_, fun d => ⟨⟨by omega, by omega⟩, ih _ (by omega) (u + 1) M2 rfl (by omega) f2 (hX2.out.cg (fun u' v => ?_))⟩⟩
            · have kb := mul_lt (show 0 ≤ u by omega) (show u < W by omega) y0 d
              have k0 := Int.mul_nonneg hW y0
              refine ⟨⟨by omega, by omega⟩, fun e => ?_, fun e => ⟨⟨by omega, by omega⟩, ih2 _ (by omega) (y + 1) M2 rfl (by omega) f2 (hX2.out.cg (fun u' v => ?_))⟩⟩
              · have ad := hX2.out.add (u := u) (v := y) ⟨by omega, by omega⟩ ⟨by omega, by omega⟩
                have hr : M2 0 86 ≤ u + 1 := by
                  rcases hX2.out with z | z
                  · omega
                  · obtain ⟨-, -, -, ⟨u3, v3, a3, e3⟩, -⟩ := z
                    omega
                refine fun v1 ev1 => ⟨⟨by omega, by omega⟩, ?_⟩
                rintro _ rfl
                try simp (disch := omega) only [rh_set_j]
                refine fun v3 ev3 => ⟨⟨by omega, by omega⟩, ?_⟩
                try simp (disch := omega) only [rh_set_j]
                refine fun v4 ev4 => ⟨⟨by omega, by omega⟩, ih2 _ (by omega) (y + 1) _ rfl (by omega) ((((f2.st (by omega)).st (by omega)).st (by omega)).st (by omega)) ?_⟩
                simp (disch := omega) only [rh_set_j, rh_set_s]
                rw [rh_ifd] at ev1 ev3 ev4
                have w1 : v1 = if u < M2 0 84 then u else M2 0 84 := by rw [ev1]; split <;> split <;> omega
                have w2 : u + 1 = if M2 0 86 < u + 1 then u + 1 else M2 0 86 := by split <;> omega
                have w3 : v3 = if y < M2 0 85 then y else M2 0 85 := by rw [ev3]; split <;> split <;> omega
                have w4 : v4 = if M2 0 87 < y + 1 then y + 1 else M2 0 87 := by rw [ev4]; split <;> split <;> omega
                rw [w1, w2, w3, w4]
                refine .inr (ad.cg (fun u' v => ⟨fun z => ?_, fun z => ?_⟩))
                · rcases z with z | z
                  · exact ⟨z.1, (by omega)⟩
                  · rw [z.1, z.2]; exact ⟨⟨⟨by omega, by omega⟩, ⟨by omega, by omega⟩, e⟩, (by omega)⟩
                · by_cases q : u' = u ∧ v = y
                  · exact .inr q
                  · exact .inl ⟨z.1, (by omega)⟩
              · refine ⟨fun z => ⟨z.1, (by omega)⟩, fun z => ⟨z.1, ?_⟩⟩
                by_cases q : u' = u ∧ v = y
                · exact absurd z.1.2.2 (by rw [q.1, q.2]; exact e)
                · omega
            · constructor
              · intro z; exact ⟨z.1, (by omega)⟩
              · intro z
                refine ⟨z.1, ?_⟩
                have := z.1.2.1
                omega
        refine key2 _ 0 M1 rfl (by omega) f (hX.out.cg (fun u' v => ⟨fun z => ⟨z.1, .inl z.2⟩, fun z => ⟨z.1, ?_⟩⟩))
        have := z.1.2.1
        omega
      · refine hX.out.cg (fun u' v => ⟨fun z => z.1, fun z => ⟨z, ?_⟩⟩)
        have := z.1
        omega
  refine key _ a M0 rfl (by omega) f0 (.inl ⟨fun u v z => ?_, ?_⟩)
  · have := z.1.1
    have := z.2
    omega
  · rw [g11, g12, g13, g14]; omega
end Box
