/-! ===== holes: the count (pure) ===== -/
section HolesQ
variable {W H l t r b cnt cnt' X Y : Int} {P : Int → Int → Prop} {lab lab' : Int → Int}
theorem Hls.K (h : Hls W H l t r b P lab' lab cnt' cnt) {X2 Y2 d : Int} (h1 : inB l t r b X Y) (n1 : ¬ P X Y) (e : lab (bix l t r X Y) = d) (hd : 1 ≤ d) (n2 : ¬ P X2 Y2) (d1 : -1 ≤ X - X2 ∧ X - X2 ≤ 1) (d2 : -1 ≤ Y - Y2 ∧ Y - Y2 ≤ 1) (d3 : X = X2 ∨ Y = Y2) : inB l t r b X2 Y2 ∧ lab (bix l t r X2 Y2) = d := by
  have hp : inP l t r b X2 Y2 := ⟨⟨by omega, by omega⟩, ⟨by omega, by omega⟩⟩
  have e2 := h.ba (X := X) (Y := Y) ⟨⟨by omega, by omega⟩, ⟨by omega, by omega⟩⟩ hp n1 n2 d1 d2 d3
  refine ⟨?_, by rw [e2, e]⟩
  by_cases q : inB l t r b X2 Y2
  · exact q
  · have := (h.ring hp (by unfold inB at q; omega)).2
    omega
theorem Hls.K' (h : Hls W H l t r b P lab' lab cnt' cnt) {d : Int} (h1 : inB l t r b X Y) (n1 : ¬ P X Y) (e : lab (bix l t r X Y) = d) (hd : 1 ≤ d) : ¬ (X = 0 ∨ Y = 0 ∨ X = W - 1 ∨ Y = H - 1) := by
  have hl := h.1
  have ht := h.2.1
  have nP : ∀ X Y, ¬ inB l t r b X Y → ¬ P X Y := fun X Y n y => n (h.2.2.1 X Y y)
  intro y
  rcases y with y | y | y | y
  · have := (h.K (X2 := X - 1) (Y2 := Y) h1 n1 e hd (nP _ _ (by omega)) ⟨by omega, by omega⟩ ⟨by omega, by omega⟩ (.inr rfl)).1
    omega
  · have := (h.K (X2 := X) (Y2 := Y - 1) h1 n1 e hd (nP _ _ (by omega)) ⟨by omega, by omega⟩ ⟨by omega, by omega⟩ (.inl rfl)).1
    omega
  · have := (h.K (X2 := X + 1) (Y2 := Y) h1 n1 e hd (nP _ _ (by omega)) ⟨by omega, by omega⟩ ⟨by omega, by omega⟩ (.inr rfl)).1
    omega
  · have := (h.K (X2 := X) (Y2 := Y + 1) h1 n1 e hd (nP _ _ (by omega)) ⟨by omega, by omega⟩ ⟨by omega, by omega⟩ (.inl rfl)).1
    omega
theorem Hls.cls (h : Hls W H l t r b P lab' lab cnt' cnt) {d k : Int} (h1 : inB l t r b X Y) (n1 : ¬ P X Y) (e : lab (bix l t r X Y) = d) (hd : 1 ≤ d) (hk : 0 ≤ k ∧ k < W * H) (ek : lab' (W * Y + X) = lab' k) : inB l t r b (k % W) (k / W) ∧ ¬ P (k % W) (k / W) ∧ lab (bix l t r (k % W) (k / W)) = d := by
  have hl := h.1
  have ht := h.2.1
  have dx := dm_x (W := W) (u := X) (v := Y) (by omega) (by omega)
  refine h.2.2.2.1.cl (Q := fun z => inB l t r b (z % W) (z / W) ∧ ¬ P (z % W) (z / W) ∧ lab (bix l t r (z % W) (z / W)) = d) (fun a c ha hc ca cc hac qa => ?_) (k := W * Y + X) (ix_b (W := W) (H := H) (by omega) (by omega) (by omega) (by omega)) hk ?_ ek ?_
  · obtain ⟨q1, q2, q3⟩ := qa
    obtain ⟨a1, a2, a3⟩ := hac
    have := h.K q1 q2 q3 hd cc a1 a2 (a3.resolve_left id)
    exact ⟨this.1, cc, this.2⟩
  · show ¬ P _ _
    rw [dx.1, dx.2]; exact n1
  · show inB l t r b ((W * Y + X) % W) ((W * Y + X) / W) ∧ ¬ P ((W * Y + X) % W) ((W * Y + X) / W) ∧ lab (bix l t r ((W * Y + X) % W) ((W * Y + X) / W)) = d
    rw [dx.1, dx.2]; exact ⟨h1, n1, e⟩
theorem Hls.out (h : Hls W H l t r b P lab' lab cnt' cnt) (h1 : (0 ≤ X ∧ X < W) ∧ (0 ≤ Y ∧ Y < H)) (n : ¬ inB l t r b X Y) : ∃ k, (0 ≤ k ∧ k < W * H) ∧ lab' k = lab' (W * Y + X) ∧ brd W H k := by
  have hl := h.1
  have ht := h.2.1
  have nP : ∀ X Y, ¬ inB l t r b X Y → ¬ P X Y := fun X Y n y => n (h.2.2.1 X Y y)
  have hB : ∀ X' Y' : Int, (0 ≤ X' ∧ X' < W) ∧ (0 ≤ Y' ∧ Y' < H) → (X' = 0 ∨ Y' = 0 ∨ X' = W - 1 ∨ Y' = H - 1) → lab' (W * Y' + X') = lab' (W * Y + X) → ∃ k, (0 ≤ k ∧ k < W * H) ∧ lab' k = lab' (W * Y + X) ∧ brd W H k := fun X' Y' d1 d2 d3 => by
    refine ⟨W * Y' + X', ix_b d1.1.1 d1.1.2 d1.2.1 d1.2.2, d3, ?_⟩
    have dx := dm_x (W := W) (u := X') (v := Y') (by omega) (by omega)
    unfold brd
    rw [dx.1, dx.2]; exact d2
  have hcs : X < l ∨ r ≤ X ∨ Y < t ∨ b ≤ Y := by unfold inB at n; omega
  rcases hcs with q | q | q | q
  · refine hB 0 Y ⟨by omega, by omega⟩ (.inl rfl) ?_
    exact (chain2 (f := fun x => lab' (W * Y + x)) h1.1.1 (fun j j0 j1 => h.pa (X := j) (Y := Y) (X2 := j + 1) (Y2 := Y) ⟨by omega, by omega⟩ ⟨by omega, by omega⟩ (nP _ _ (by omega)) (nP _ _ (by omega)) ⟨by omega, by omega⟩ ⟨by omega, by omega⟩ (.inr rfl))).symm
  · refine hB (W - 1) Y ⟨by omega, by omega⟩ (by omega) ?_
    exact chain2 (f := fun x => lab' (W * Y + x)) (a := X) (b := W - 1) (by omega) (fun j j0 j1 => h.pa (X := j) (Y := Y) (X2 := j + 1) (Y2 := Y) ⟨by omega, by omega⟩ ⟨by omega, by omega⟩ (nP _ _ (by omega)) (nP _ _ (by omega)) ⟨by omega, by omega⟩ ⟨by omega, by omega⟩ (.inr rfl))
  · refine hB X 0 ⟨by omega, by omega⟩ (by omega) ?_
    exact (chain2 (f := fun y => lab' (W * y + X)) h1.2.1 (fun j j0 j1 => h.pa (X := X) (Y := j) (X2 := X) (Y2 := j + 1) ⟨by omega, by omega⟩ ⟨by omega, by omega⟩ (nP _ _ (by omega)) (nP _ _ (by omega)) ⟨by omega, by omega⟩ ⟨by omega, by omega⟩ (.inl rfl))).symm
  · refine hB X (H - 1) ⟨by omega, by omega⟩ (by omega) ?_
    exact chain2 (f := fun y => lab' (W * y + X)) (a := Y) (b := H - 1) (by omega) (fun j j0 j1 => h.pa (X := X) (Y := j) (X2 := X) (Y2 := j + 1) ⟨by omega, by omega⟩ ⟨by omega, by omega⟩ (nP _ _ (by omega)) (nP _ _ (by omega)) ⟨by omega, by omega⟩ ⟨by omega, by omega⟩ (.inl rfl))
theorem nct_ge1 : ∀ n : Nat, nct (fun d => if 1 ≤ d then (1 : Int) else 0) 1 (n + 1) = n
  | 0 => by simp [nct]
  | n + 1 => by
    have := nct_ge1 n
    rw [nct, this, if_pos]
    · omega
    · show (if (1 : Int) ≤ ((n + 1 : Nat) : Int) then (1 : Int) else 0) = 1
      rw [if_pos (by omega)]
theorem Hls.count (h : Hls W H l t r b P lab' lab cnt' cnt) {ed : Int → Int} (he : ∀ c, 0 ≤ c → c < cnt' → (ed c = 0 ∨ ed c = 1) ∧ (ed c = 1 ↔ ∃ k, (0 ≤ k ∧ k < W * H) ∧ lab' k = c ∧ brd W H k)) : nct (fun c => if ed c = 0 then (1 : Int) else 0) 1 cnt'.toNat = cnt - 1 := by
  have hl := h.1
  have ht := h.2.1
  have nP : ∀ X Y, ¬ inB l t r b X Y → ¬ P X Y := fun X Y n y => n (h.2.2.1 X Y y)
  have hc0 := h.2.2.2.1.2.2.2.2.2
  have r0 := h.ring (X := l - 1) (Y := t - 1) ⟨⟨by omega, by omega⟩, ⟨by omega, by omega⟩⟩ (.inl rfl)
  have i0 := bix_i (l := l) (t := t) (r := r) (b := b) (X := l - 1) (Y := t - 1) ⟨⟨by omega, by omega⟩, ⟨by omega, by omega⟩⟩
  have hc1 : 1 ≤ cnt := by
    have := (h.2.2.2.2.1 _ i0.1).2
    rw [r0.2] at this
    omega
  have hq : nct (fun d => if 1 ≤ d then (1 : Int) else 0) 1 cnt.toNat = cnt - 1 := by
    have := nct_ge1 (cnt - 1).toNat
    rw [show (cnt - 1).toNat + 1 = cnt.toNat by omega] at this
    rw [this]; omega
  have p1 : ∀ c, (if ed c = 0 then (1 : Int) else 0) = 1 ↔ ed c = 0 := fun c => by
    split
    · rename_i y; exact ⟨fun _ => y, fun _ => rfl⟩
    · rename_i y; exact ⟨fun z => absurd z (by decide), fun z => absurd z y⟩
  have q1 : ∀ d : Int, (if 1 ≤ d then (1 : Int) else 0) = 1 ↔ 1 ≤ d := fun d => by
    split
    · rename_i y; exact ⟨fun _ => y, fun _ => rfl⟩
    · rename_i y; exact ⟨fun z => absurd z (by decide), fun z => absurd z y⟩
  -- from a place in the box to coordinates
  have toc : ∀ z : Int, (0 ≤ z ∧ z < (r - l + 2) * (b - t + 2)) → inP l t r b (l - 1 + z % (r - l + 2)) (t - 1 + z / (r - l + 2)) ∧ bix l t r (l - 1 + z % (r - l + 2)) (t - 1 + z / (r - l + 2)) = z := fun z hz => by
    have db := dm_b (W := r - l + 2) (H := b - t + 2) (by omega) hz.1 hz.2
    have dmk := dm z (r - l + 2)
    refine ⟨⟨⟨by omega, by omega⟩, ⟨by omega, by omega⟩⟩, ?_⟩
    unfold bix
    rw [show t - 1 + z / (r - l + 2) - t + 1 = z / (r - l + 2) by omega]
    omega
  have A : nct (fun c => if ed c = 0 then (1 : Int) else 0) 1 cnt'.toNat ≤ nct (fun d => if 1 ≤ d then (1 : Int) else 0) 1 cnt.toNat := by
    refine nct_inj (Rl := fun c d => ∃ X Y, inB l t r b X Y ∧ ¬ P X Y ∧ lab' (W * Y + X) = c ∧ lab (bix l t r X Y) = d ∧ 1 ≤ d) _ _ _ _ (fun c c0 c1 hc => ?_) ?_
    · have hc := (p1 c).mp hc
      obtain ⟨k, k0, k1⟩ := h.2.2.2.1.2.2.2.2.1 c c0 (by omega)
      have he := (he c c0 (by omega)).2
      have nb : ¬ ∃ k, (0 ≤ k ∧ k < W * H) ∧ lab' k = c ∧ brd W H k := fun y => by
        have := he.mpr y
        omega
      clear he
      have db := dm_b (W := W) (H := H) (by omega) k0.1 k0.2
      have dmk := dm k W
      have cp : ¬ P (k % W) (k / W) := fun y => by
        have := (h.2.2.2.1.1 k k0).1.mpr (fun z => z y)
        omega
      have hin : inB l t r b (k % W) (k / W) := Classical.byContradiction (fun y => by
        obtain ⟨k2, a1, a2, a3⟩ := h.out db y
        rw [← dmk, k1] at a2
        exact nb ⟨k2, a1, a2, a3⟩)
      have hP : inP l t r b (k % W) (k / W) := ⟨⟨by omega, by omega⟩, ⟨by omega, by omega⟩⟩
      have bi := bix_i hP
      have cc := (h.2.2.2.2.1 _ bi.1)
      have d0 : lab (bix l t r (k % W) (k / W)) ≠ -1 := fun y => (cc.1.mp y) (h.cb hP cp)
      have d1 : lab (bix l t r (k % W) (k / W)) ≠ 0 := fun y => by
        have := h.2.2.2.2.cl (Q := fun z => inB l t r b (l - 1 + z % (r - l + 2)) (t - 1 + z / (r - l + 2)) ∧ lab' (W * (t - 1 + z / (r - l + 2)) + (l - 1 + z % (r - l + 2))) = c) (fun a e ha hb ca ce hae qa => ?_) bi.1 i0.1 (h.cb hP cp) (y.trans r0.2.symm) ?_
        · have := this.1
          rw [i0.2.1, i0.2.2] at this
          omega
        · obtain ⟨g1, g2⟩ := qa
          obtain ⟨a1, a2, a3⟩ := hae
          have a3 := a3.resolve_left id
          obtain ⟨ta, -⟩ := toc a ha
          obtain ⟨te, -⟩ := toc e hb
          generalize hxa : l - 1 + a % (r - l + 2) = xa at *
          generalize hya : t - 1 + a / (r - l + 2) = ya at *
          generalize hxe : l - 1 + e % (r - l + 2) = xe at *
          generalize hye : t - 1 + e / (r - l + 2) = ye at *
          by_cases w : (0 ≤ xe ∧ xe < W) ∧ (0 ≤ ye ∧ ye < H)
          · have e1 := h.pa (X := xa) (Y := ya) (X2 := xe) (Y2 := ye) ⟨⟨by omega, by omega⟩, ⟨by omega, by omega⟩⟩ w ca ce ⟨by omega, by omega⟩ ⟨by omega, by omega⟩ (by omega)
            rw [g2] at e1
            by_cases w2 : inB l t r b xe ye
            · exact ⟨w2, e1⟩
            · obtain ⟨k2, u1, u2, u3⟩ := h.out w w2
              exact absurd ⟨k2, u1, u2.trans e1, u3⟩ nb
          · refine absurd ⟨W * ya + xa, ix_b (W := W) (H := H) (by omega) (by omega) (by omega) (by omega), g2, ?_⟩ nb
            have dx := dm_x (W := W) (u := xa) (v := ya) (by omega) (by omega)
            unfold brd
            rw [dx.1, dx.2]
            omega
        · show inB l t r b (l - 1 + bix l t r (k % W) (k / W) % (r - l + 2)) (t - 1 + bix l t r (k % W) (k / W) / (r - l + 2)) ∧ _
          rw [bi.2.1, bi.2.2, show l - 1 + (k % W - l + 1) = k % W by omega, show t - 1 + (k / W - t + 1) = k / W by omega, ← dmk]
          exact ⟨hin, k1⟩
      refine ⟨lab (bix l t r (k % W) (k / W)), ⟨(by omega), (by omega)⟩, (q1 _).mpr (by omega), k % W, k / W, hin, cp, by rw [← dmk]; exact k1, rfl, (by omega)⟩
    · intro c c' d _ _ ⟨X, Y, x1, x2, x3, x4, x5⟩ ⟨X', Y', y1, y2, y3, y4, y5⟩
      have hP : inP l t r b X Y := ⟨⟨by omega, by omega⟩, ⟨by omega, by omega⟩⟩
      have hP' : inP l t r b X' Y' := ⟨⟨by omega, by omega⟩, ⟨by omega, by omega⟩⟩
      have bi := bix_i hP
      have bi' := bix_i hP'
      have := h.2.2.2.2.cl (Q := fun z => lab z = d ∧ inB l t r b (l - 1 + z % (r - l + 2)) (t - 1 + z / (r - l + 2)) ∧ lab' (W * (t - 1 + z / (r - l + 2)) + (l - 1 + z % (r - l + 2))) = c) (fun a e ha hb ca ce hae qa => ?_) bi.1 bi'.1 (h.cb hP x2) (x4.trans y4.symm) ?_
      · have := this.2.2
        rw [bi'.2.1, bi'.2.2, show l - 1 + (X' - l + 1) = X' by omega, show t - 1 + (Y' - t + 1) = Y' by omega, y3] at this
        exact this.symm
      · obtain ⟨g0, g1, g2⟩ := qa
        have le := h.2.2.2.2.2.1 a e ha hb ca ce hae
        rw [g0] at le
        obtain ⟨a1, a2, a3⟩ := hae
        have a3 := a3.resolve_left id
        obtain ⟨ta, -⟩ := toc a ha
        obtain ⟨te, te2⟩ := toc e hb
        generalize hxa : l - 1 + a % (r - l + 2) = xa at *
        generalize hya : t - 1 + a / (r - l + 2) = ya at *
        generalize hxe : l - 1 + e % (r - l + 2) = xe at *
        generalize hye : t - 1 + e / (r - l + 2) = ye at *
        have hin : inB l t r b xe ye := Classical.byContradiction (fun y => by
          have := (h.ring te (by unfold inB at y; omega)).2
          rw [te2, le] at this
          omega)
        have e1 := h.pa (X := xa) (Y := ya) (X2 := xe) (Y2 := ye) ⟨⟨by omega, by omega⟩, ⟨by omega, by omega⟩⟩ ⟨⟨by omega, by omega⟩, ⟨by omega, by omega⟩⟩ ca ce ⟨by omega, by omega⟩ ⟨by omega, by omega⟩ (by omega)
        exact ⟨le, hin, e1.trans g2⟩
      · show lab _ = d ∧ inB l t r b (l - 1 + bix l t r X Y % (r - l + 2)) (t - 1 + bix l t r X Y / (r - l + 2)) ∧ _
        rw [bi.2.1, bi.2.2, show l - 1 + (X - l + 1) = X by omega, show t - 1 + (Y - t + 1) = Y by omega]
        exact ⟨x4, x1, x3⟩
  have B : nct (fun d => if 1 ≤ d then (1 : Int) else 0) 1 cnt.toNat ≤ nct (fun c => if ed c = 0 then (1 : Int) else 0) 1 cnt'.toNat := by
    refine nct_inj (Rl := fun d c => ∃ X Y, inB l t r b X Y ∧ ¬ P X Y ∧ lab' (W * Y + X) = c ∧ lab (bix l t r X Y) = d ∧ 1 ≤ d) _ _ _ _ (fun d d0 d1 hd => ?_) ?_
    · have hd := (q1 d).mp hd
      obtain ⟨z, z0, z1⟩ := h.2.2.2.2.2.2.2.2.1 d d0 (by omega)
      obtain ⟨tz, tz2⟩ := toc z z0
      have cz : ¬ P (l - 1 + z % (r - l + 2)) (t - 1 + z / (r - l + 2)) := fun y => by
        have := (h.2.2.2.2.1 z z0).1.mpr (fun w => w y)
        omega
      generalize hxa : l - 1 + z % (r - l + 2) = xa at *
      generalize hya : t - 1 + z / (r - l + 2) = ya at *
      rw [← tz2] at z1
      have hin : inB l t r b xa ya := Classical.byContradiction (fun y => by
        have := (h.ring tz (by unfold inB at y; omega)).2
        omega)
      have ib := ix_b (W := W) (H := H) (x := xa) (y := ya) (by omega) (by omega) (by omega) (by omega)
      have dx := dm_x (W := W) (u := xa) (v := ya) (by omega) (by omega)
      have cc := h.2.2.2.1.1 _ ib
      have c0 : lab' (W * ya + xa) ≠ -1 := fun y => (cc.1.mp y) (by
        show ¬ P ((W * ya + xa) % W) ((W * ya + xa) / W)
        rw [dx.1, dx.2]; exact cz)
      have hc := he (lab' (W * ya + xa)) (by omega) (by omega)
      have e0 : ed (lab' (W * ya + xa)) = 0 := hc.1.resolve_right (fun y => by
        obtain ⟨k, k0, k1, k2⟩ := hc.2.mp y
        obtain ⟨u1, u2, u3⟩ := h.cls hin cz z1 hd k0 k1.symm
        exact h.K' u1 u2 u3 hd k2)
      clear hc
      exact ⟨lab' (W * ya + xa), ⟨(by omega), (by omega)⟩, (p1 _).mpr e0, xa, ya, hin, cz, rfl, z1, hd⟩
    · intro d d' c _ _ ⟨X, Y, x1, x2, x3, x4, x5⟩ ⟨X', Y', y1, y2, y3, y4, y5⟩
      have ib := ix_b (W := W) (H := H) (x := X') (y := Y') (by omega) (by omega) (by omega) (by omega)
      have dx := dm_x (W := W) (u := X') (v := Y') (by omega) (by omega)
      have := h.cls x1 x2 x4 x5 ib (x3.trans y3.symm)
      rw [dx.1, dx.2, y4] at this
      exact this.2.2.symm
  omega
end HolesQ
