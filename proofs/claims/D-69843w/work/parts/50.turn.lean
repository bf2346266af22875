/-! ===== LAYER 2: shear, turn (operations) ===== -/
section Turn
variable {wh wm : rhW}
theorem shv_b {g : Int → Int} {W H s x y : Int} (h0 : 0 ≤ x) (h1 : x < W) (hg : ∀ k, 0 ≤ k → k < W * H → 0 ≤ g k ∧ g k ≤ 255) : 0 ≤ shv g W H s x y ∧ shv g W H s x y ≤ 255 := by
  unfold shv
  split
  · rename_i h
    have := ix_b h0 h1 h.1 h.2
    exact hg _ this.1 this.2
  · exact ⟨by decide, by decide⟩
/-- the house's spare and the model's working page hold the same sheared page -/
theorem sh_both {Mh Mm M' N' : rhM} {x p s W H : Int} (R : Rp Mh Mm x p) (hW : Mm 4 p = W) (hH : Mm 5 p = H) (hW0 : 0 < W) (h1 : ∀ u v, 0 ≤ u → u < W → 0 ≤ v → v < H → M' 9 (W * v + u) = rh_i2b (shv (fun k => rh_and (Mh (x + 1) k) 255) W H s u v)) (h2 : ∀ u v, 0 ≤ u → u < W → 0 ≤ v → v < H → N' 6 (W * v + u) = shv (fun k => Mm 3 (6144 * p + k)) W H s u v) :
    ∀ u v, 0 ≤ u → u < W → 0 ≤ v → v < H → rh_and (M' 9 (W * v + u)) 255 = N' 6 (W * v + u) ∧ 0 ≤ N' 6 (W * v + u) ∧ N' 6 (W * v + u) ≤ 255 := by
  intro u v u0 u1 v0 v1
  obtain ⟨a1, a2, a3, a4, a5, a6, a7, a8, a9, a10⟩ := R
  rw [hW, hH] at a10
  have e : shv (fun k => rh_and (Mh (x + 1) k) 255) W H s u v = shv (fun k => Mm 3 (6144 * p + k)) W H s u v := shv_cg u0 u1 (fun k k0 k1 => (a10 k k0 k1).1)
  have b := shv_b (g := fun k => Mm 3 (6144 * p + k)) (s := s) (y := v) u0 u1 (fun k k0 k1 => (a10 k k0 k1).2)
  rw [h1 u v u0 u1 v0 v1, h2 u v u0 u1 v0 v1, e, b255 b.1 b.2]
  exact ⟨rfl, b⟩
theorem by_uv {W H : Int} {P : Int → Prop} (hW0 : 0 < W) (h : ∀ u v, 0 ≤ u → u < W → 0 ≤ v → v < H → P (W * v + u)) : ∀ k, 0 ≤ k → k < W * H → P k := fun k k0 k1 => by
  have b := dm_b hW0 k0 k1
  rw [dm k W]
  exact h _ _ b.1.1 b.1.2 b.2.1 b.2.2
theorem op_shear (hh : rh_hs wh) (hm : rh_ms wm) {Mh Mm : rhM} (R : Rpg Mh Mm) (x1 x2 x3 : Int) : rC2 wh YX1_shear 3 [(2, 0), (0, x1), (0, x2), (0, x3)] Mh wm YX32_shear 3 [(2, 0), (0, x1), (0, x2), (0, x3)] Mm (fun r M' r2 M2' => r = r2 ∧ Pres Mh Mm M' M2') := by
  refine rC2.of (by decide) (LE0 rfl) (by decide) (LE0 rfl) ?_
  have e4 : ∀ j, rh_set Mm 0 0 0 4 j = Mm 4 j := fun j => rh_set_a (by decide)
  have e5 : ∀ j, rh_set Mm 0 0 0 5 j = Mm 5 j := fun j => rh_set_a (by decide)
  have f0 : frx Gw Mm (rh_set Mm 0 0 0) := frx.rf.st (by unfold Gw; omega)
  have hc := gpage2 R x1 x2
  refine rh2.l (rX1_shear_0 hh _ _ _ _ ?_)
  refine ⟨(by omega), fun c => ?_, fun c => ⟨fun c2 => ?_, fun c2 => ?_⟩⟩
  · refine rh1.of (rX32_shear_0 hm _ _ _ _ ?_)
    exact ⟨(by omega), fun _ => ⟨rfl, .inl ⟨frx.rf, f0⟩⟩, fun d => absurd (hc.mp c) d⟩
  · refine rh1.of (rX32_shear_0 hm _ _ _ _ ?_)
    exact ⟨(by omega), fun d => absurd (hc.mpr d) c, fun d => ⟨fun _ => ⟨rfl, .inl ⟨frx.rf, f0⟩⟩, fun d2 => absurd c2 d2⟩⟩
  have hp : 0 ≤ x1 ∧ x1 < 8 := ⟨by omega, by omega⟩
  have hq : 0 ≤ x2 ∧ x2 < 8 := ⟨by omega, by omega⟩
  refine ⟨hp, ?_⟩
  refine rh2.r (rX32_shear_0 hm _ _ _ _ ?_)
  refine ⟨(by omega), fun d => absurd (hc.mpr d) c, fun d => ⟨fun d2 => absurd d2 c2, fun _ => ?_⟩⟩
  have hs : -24 ≤ x3 ∧ x3 ≤ 24 := ⟨by omega, by omega⟩
  obtain ⟨R1, b⟩ := R x1 hp.1 hp.2
  have hx1 : 0 < Mm 4 x1 := (by omega)
  have R1' := R1
  obtain ⟨a1, a2, a3, a4, a5, a6, a7, a8, a9, a10⟩ := R1'
  obtain ⟨r, M1, E1, -, f1, h1, h2, h3⟩ := c_shearH hh (s := x3) (hs_pg hh hp.1 hp.2) (by omega) Mh a1 a2 hx1 a4 a5 a6 a8 hs
  obtain ⟨r, N1, D1, -, g1, g2⟩ := c_shearM hm (s := x3) hp (rh_set Mm 0 0 0) (e4 _) (e5 _) hx1 a4 a5 a6 a8 hs
  rw [rh_set_n (a := 3) (by decide)] at g2
  refine rh2.sl (vX1_shear_43 hh E1 (LE0 rfl)) (rh2.sr (vX32_shear_44 hm D1 (LE0 rfl)) ?_)
  refine rh2.l (rX1_shear_46 hh _ _ _ ?_)
  refine ⟨hq, ?_⟩
  refine rh2.r (rX32_shear_47 hm _ _ _ _ ?_)
  rw [g1 4 _ (by omega), g1 5 _ (by omega), e4, e5]
  refine ⟨hp, hp, ?_⟩
  refine rh2.sl (vX1_shear_56 (hs_pg hh hq.1 hq.2) (c_lay hh (hs_pg hh hq.1 hq.2) (hs_sh hh) (by omega) M1 (by rw [h1, h2]; exact a7) (by rw [h1, h2]; exact a8)) (LE0 rfl)) ?_
  refine rh2.sr (vX32_shear_61 hm (c_bec hm hq N1 a7 a8) (LE0 rfl)) ?_
  refine rh2.l (rX1_shear_59 hh _ _ ?_)
  refine rh1.of (rX32_shear_64 hm _ _ ?_)
  exact ⟨rfl, .inr ⟨x2, hq, Laid.mk R hq (f1.w (fun a j h => by unfold Hw; omega)) (f0.tr (g1.w (fun a j h => by unfold Gw; omega))) ⟨h1, h2, a3, a4, a5, a6, a7, a8, a9, by_uv hx1 (sh_both R1 rfl rfl hx1 h3 g2)⟩ hx1⟩⟩
theorem op_turn (hh : rh_hs wh) (hm : rh_ms wm) {Mh Mm : rhM} (R : Rpg Mh Mm) (x1 x2 x3 : Int) : rC2 wh YX1_turn 3 [(2, 0), (0, x1), (0, x2), (0, x3)] Mh wm YX32_turn 3 [(2, 0), (0, x1), (0, x2), (0, x3)] Mm (fun r M' r2 M2' => r = r2 ∧ Pres Mh Mm M' M2') := by
  refine rC2.of (by decide) (LE0 rfl) (by decide) (LE0 rfl) ?_
  have e4 : ∀ j, rh_set Mm 0 0 0 4 j = Mm 4 j := fun j => rh_set_a (by decide)
  have e5 : ∀ j, rh_set Mm 0 0 0 5 j = Mm 5 j := fun j => rh_set_a (by decide)
  have f0 : frx Gw Mm (rh_set Mm 0 0 0) := frx.rf.st (by unfold Gw; omega)
  have hc := gpage2 R x1 x2
  refine rh2.l (rX1_turn_0 hh _ _ _ _ ?_)
  refine ⟨(by omega), fun c => ?_, fun c => ⟨fun c2 => ?_, fun c2 => ?_⟩⟩
  · refine rh1.of (rX32_turn_0 hm _ _ _ _ ?_)
    exact ⟨(by omega), fun _ => ⟨rfl, .inl ⟨frx.rf, f0⟩⟩, fun d => absurd (hc.mp c) d⟩
  · refine rh1.of (rX32_turn_0 hm _ _ _ _ ?_)
    exact ⟨(by omega), fun d => absurd (hc.mpr d) c, fun d => ⟨fun _ => ⟨rfl, .inl ⟨frx.rf, f0⟩⟩, fun d2 => absurd c2 d2⟩⟩
  have hp : 0 ≤ x1 ∧ x1 < 8 := ⟨by omega, by omega⟩
  have hq : 0 ≤ x2 ∧ x2 < 8 := ⟨by omega, by omega⟩
  refine ⟨hp, ?_⟩
  refine rh2.r (rX32_turn_0 hm _ _ _ _ ?_)
  refine ⟨(by omega), fun d => absurd (hc.mpr d) c, fun d => ⟨fun d2 => absurd d2 c2, fun _ => ?_⟩⟩
  have hs : 1 ≤ x3 ∧ x3 ≤ 24 := ⟨by omega, by omega⟩
  obtain ⟨R1, b⟩ := R x1 hp.1 hp.2
  have hx1 : 0 < Mm 4 x1 := (by omega)
  have R1' := R1
  obtain ⟨a1, a2, a3, a4, a5, a6, a7, a8, a9, a10⟩ := R1'
  clear c c2 d hc b
  replace a9 := Hid.mk a9
  generalize hWW : Mm 4 x1 = W at *
  generalize hHH : Mm 5 x1 = H at *
  -- steepness as it is
  have E0 := c_rough hh (hs_pgs hh hp.1 hp.2) Mh a1 a2 a3 a4 a5 a6 a8
  refine rh2.sl (vX1_turn_43 hh E0 (LE0 rfl)) ?_
  obtain ⟨r, N0, D0, rfl, g0, g02⟩ := c_steep hm (s := 0) hp (rh_set Mm 0 0 0) ((e4 _).trans hWW) ((e5 _).trans hHH) hx1 a4 a5 a6 a8 (by decide)
  rw [rh_set_n (a := 3) (by decide)] at g02
  refine rh2.sr (vX32_turn_45 hm D0 (LE0 rfl)) ?_
  refine rh2.l (rX1_turn_46 hh _ _ _ _ _ _ ?_)
  refine rh2.r (rX32_turn_48 hm _ _ _ _ _ _ ?_)
  have hst : stp (fun k => rh_and (Mh (251 + 39 * x1 + 1) k) 255) W H.toNat = stp (N0 6) W H.toNat := stp_cg a3 _ (fun u v u0 u1 v0 v1 => by
    have ib := ix_b (H := H) u0 u1 v0 (by omega)
    rw [g02 u v u0 u1 v0 (by omega)]
    unfold shv
    rw [Int.zero_mul, Int.zero_ediv, Int.sub_zero, if_pos ⟨by omega, by omega⟩]
    exact (a10 _ ib.1 ib.2).1)
  rw [hst]
  have gg0 : frx (fun a j => (a = 0 ∧ j = 0) ∨ a = 6) Mm N0 := (frx.rf.st (.inl ⟨rfl, rfl⟩)).tr (g0.w (fun a j h => .inr h))
  have key : ∀ (v : Nat) (i best : Int) (b5 : Int) (M' N' : rhM), (x3 + 1 - i).toNat = v → (1 ≤ i) → (i ≤ x3 + 1) → (-24 ≤ best ∧ best ≤ 24) → (frx (fun a _ => a = 8 ∨ a = 9) Mh M') → (frx (fun a j => (a = 0 ∧ j = 0) ∨ a = 6) Mm N') → rh2 wh YX1_turn 3 51 [(0, 2, 0), (1, 0, x1), (2, 0, x2), (3, 0, x3), (4, 0, best), (5, 1, b5), (7, 0, i)] [] M' wm YX32_turn 3 53 [(0, 2, 0), (1, 0, x1), (2, 0, x2), (3, 0, x3), (4, 0, best), (5, 1, b5), (7, 0, i)] [] N' (fun r M' r2 M2' => r = r2 ∧ Pres Mh Mm M' M2') := by
    intro v
    induction v using Nat.strongRecOn with
    | ind v ih =>
      intro i best b5 M' N' hv i0 i1 bb f g
      refine rh2.l (rX1_turn_51 hh _ _ _ _ _ _ _ ?_)
      refine ⟨fun c => ?_, fun c => ⟨hp, ?_⟩⟩
      · refine rh2.r (rX32_turn_53 hm _ _ _ _ _ _ _ ?_)
        refine ⟨fun _ => ?_, fun d => absurd c d⟩
        have key2 : ∀ (v : Nat) (e best : Int) (b5 : Int) (M' N' : rhM), (e + 3).toNat = v → (e = 1 ∨ e = -1 ∨ e = -3) → (-24 ≤ best ∧ best ≤ 24) → (frx (fun a _ => a = 8 ∨ a = 9) Mh M') → (frx (fun a j => (a = 0 ∧ j = 0) ∨ a = 6) Mm N') → rh2 wh YX1_turn 3 61 [(0, 2, 0), (1, 0, x1), (2, 0, x2), (3, 0, x3), (4, 0, best), (5, 1, b5), (7, 0, i), (8, 0, e * i)] [] M' wm YX32_turn 3 62 [(0, 2, 0), (1, 0, x1), (2, 0, x2), (3, 0, x3), (4, 0, best), (5, 1, b5), (7, 0, i), (8, 0, e)] [] N' (fun r M' r2 M2' => r = r2 ∧ Pres Mh Mm M' M2') := by
          intro v
          induction v using Nat.strongRecOn with
          | ind v ih2 =>
            intro e best b5 M' N' hv he bb f g
            have hei : e * i = i ∨ e * i = -i ∨ e * i = -3 * i := by
              rcases he with h | h | h
              · rw [h]; exact .inl (by omega)
              · rw [h]; exact .inr (.inl (by omega))
              · rw [h]; exact .inr (.inr (by omega))
            by_cases hec : e = -3
            · refine rh2.l (rX1_turn_61 hh _ _ _ _ _ _ _ _ ?_)
              refine ⟨⟨by omega, by omega⟩, fun d => by rw [hec] at d; omega, fun d => ⟨⟨by omega, by omega⟩, ?_⟩⟩
              refine rh2.r (rX32_turn_62 hm _ _ _ _ _ _ _ _ ?_)
              refine ⟨fun d => by omega, fun d => ⟨⟨by omega, by omega⟩, ih _ (by omega) (i + 1) best b5 M' N' rfl (by omega) (by omega) bb f g⟩⟩
            · have hei2 : (-24 ≤ e * i ∧ e * i ≤ 24) ∧ -i ≤ e * i := by
                rcases he with h | h | h
                · rw [h]; omega
                · rw [h]; omega
                · exact absurd h hec
              refine rh2.l (rX1_turn_61 hh _ _ _ _ _ _ _ _ ?_)
              refine ⟨⟨by omega, by omega⟩, fun _ => ⟨hp, ?_⟩, fun d => absurd hei2.2 d⟩
              refine rh2.r (rX32_turn_62 hm _ _ _ _ _ _ _ _ ?_)
              refine ⟨fun _ => ?_, fun d => by omega⟩
              obtain ⟨r, M1, E1, -, f1, h1, h2, h3⟩ := c_shearH hh (s := e * i) (hs_pg hh hp.1 hp.2) (by omega) M' (by rw [f _ _ (by omega), a1]) (by rw [f _ _ (by omega), a2]) hx1 a4 a5 a6 a8 hei2.1
              rw [f.cell (a := 251 + 39 * x1 + 1) (fun j => (by omega))] at h3
              obtain ⟨r, N1, D1, rfl, g1, g2⟩ := c_steep hm (s := e * i) hp N' (by rw [g _ _ (by omega), hWW]) (by rw [g _ _ (by omega), hHH]) hx1 a4 a5 a6 a8 hei2.1
              rw [g.cell (a := 3) (fun j => (by omega))] at g2
              refine rh2.sl (vX1_turn_78 hh E1 (LE0 rfl)) ?_
              refine rh2.sr (eS.fx 0 (x := e * i) rfl ⟨by omega, by omega⟩ rfl) ?_
              refine rh2.sr (vX32_turn_75 hm D1 (LE0 rfl)) ?_
              refine rh2.l (rX1_turn_81 hh _ _ _ _ _ _ _ _ ?_)
              refine rh2.sl (vX1_turn_86 hh (c_rough hh (hs_sh hh) M1 h1 h2 a3 a4 a5 a6 a8) (LE0 rfl)) ?_
              refine rh2.l (rX1_turn_89 hh _ _ _ _ _ _ _ _ _ ?_)
              have hst2 : stp (fun k => rh_and (M1 (8 + 1) k) 255) W H.toNat = stp (N1 6) W H.toNat := stp_cg a3 _ (fun u v u0 u1 v0 v1 => (sh_both R1 hWW hHH hx1 h3 g2 u v u0 u1 v0 (by omega)).1)
              rw [hst2]
              generalize stp (N1 6) W H.toNat = nw
              intro bst ebst b6 eb6
              refine ⟨⟨by omega, by omega⟩, ?_⟩
              refine rh2.r (rX32_turn_78 hm _ _ _ _ _ _ _ _ _ ?_)
              refine ⟨fun _ => ⟨by omega, by omega⟩, ⟨by omega, by omega⟩, ?_⟩
              rw [← ebst]
              have e6 : rh_if (b5 < nw) nw b5 = b6 := by
                rw [eb6, rh_ifd, rh_ifd]; split <;> split <;> omega
              rw [e6]
              have e7 : e * i - 2 * i = (e + -2) * i := by rw [Int.add_mul]; omega
              rw [e7]
              refine ih2 _ (by omega) (e + -2) bst b6 M1 N1 rfl ?_ ?_ (f.tr f1) (g.tr (g1.w (fun a j h => .inr h)))
              · omega
              · rw [ebst, rh_ifd]; split <;> omega
        have := key2 _ 1 best b5 M' N' rfl (.inl rfl) bb f g
        rw [Int.one_mul] at this
        exact this
      · obtain ⟨r, M1, E1, -, f1, h1, h2, h3⟩ := c_shearH hh (s := best) (hs_pg hh hp.1 hp.2) (by omega) M' (by rw [f _ _ (by omega), a1]) (by rw [f _ _ (by omega), a2]) hx1 a4 a5 a6 a8 bb
        rw [f.cell (a := 251 + 39 * x1 + 1) (fun j => (by omega))] at h3
        obtain ⟨r, N1, D1, -, g1, g2⟩ := c_shearM hm (s := best) hp N' (by rw [g _ _ (by omega), hWW]) (by rw [g _ _ (by omega), hHH]) hx1 a4 a5 a6 a8 bb
        rw [g.cell (a := 3) (fun j => (by omega))] at g2
        refine rh2.r (rX32_turn_53 hm _ _ _ _ _ _ _ ?_)
        refine ⟨fun d => absurd d c, fun _ => ?_⟩
        refine rh2.sl (vX1_turn_144 hh E1 (LE0 rfl)) (rh2.sr (vX32_turn_115 hm D1 (LE0 rfl)) ?_)
        refine rh2.l (rX1_turn_147 hh _ _ _ ?_)
        refine ⟨hq, ?_⟩
        refine rh2.r (rX32_turn_118 hm _ _ _ _ ?_)
        rw [g1 4 _ (by omega), g1 5 _ (by omega), g 4 _ (by omega), g 5 _ (by omega), hWW, hHH]
        refine ⟨hp, hp, ?_⟩
        refine rh2.sl (vX1_turn_157 (hs_pg hh hq.1 hq.2) (c_lay hh (hs_pg hh hq.1 hq.2) (hs_sh hh) (by omega) M1 (by rw [h1, h2]; exact a7) (by rw [h1, h2]; exact a8)) (LE0 rfl)) ?_
        refine rh2.sr (vX32_turn_132 hm (c_bec hm hq N1 a7 a8) (LE0 rfl)) ?_
        refine rh2.l (rX1_turn_160 hh _ _ ?_)
        refine rh1.of (rX32_turn_135 hm _ _ ?_)
        exact ⟨rfl, .inr ⟨x2, hq, Laid.mk R hq ((f.tr f1).w (fun a j h => by unfold Hw; omega)) ((g.w (fun a j h => by unfold Gw; omega)).tr (g1.w (fun a j h => by unfold Gw; omega))) ⟨h1, h2, a3, a4, a5, a6, a7, a8, a9.out, by_uv hx1 (sh_both R1 hWW hHH hx1 h3 g2)⟩ hx1⟩⟩
  exact key _ 1 0 _ Mh N0 rfl (by omega) (by omega) (by decide) frx.rf gg0
end Turn
