/-! ===== LAYER 2: Parts.find, labelAll ===== -/
section Labels
variable {wh wm : rhW}
/-- all floods of the house -/
def Pts (W H : Int) (col : Int → Prop) (E : Prop) (lab : Int → Int) (cnt : Int) (ar ed : Int → Int) : Prop := Lb W (W * H) col E lab cnt ∧ cnt ≤ W * H ∧ ∀ c, 0 ≤ c → c < cnt → ar c = nct lab c (W * H).toNat ∧ (ed c = 0 ∨ ed c = 1) ∧ (ed c = 1 ↔ ∃ k, (0 ≤ k ∧ k < W * H) ∧ lab k = c ∧ brd W H k)
theorem c_find (hh : rh_hs wh) {x b nb W H : Int} (hx : rh_bl wh 5 x 0) (hx2 : ∀ a : Int, 10 ≤ a → a ≤ 14 → x ≠ a ∧ x + 1 ≠ a) (M : rhM) (hW : M x 1 = W) (hH : M x 2 = H) (hW0 : 0 ≤ W) (hWb : W ≤ 128) (hHb : H ≤ 96) (hN0 : 0 ≤ W * H) (hN : W * H ≤ 6144) (hnb : nb = 4 ∨ nb = 8) :
    rC1 wh YX6_find 2 [(2, 10), (2, x), (0, b), (0, nb)] M (fun r M' => r = 0 ∧ frx (fun a j => (a = 10 ∧ j = 4) ∨ a = 11 ∨ a = 12 ∨ a = 13 ∨ a = 14) M M' ∧ Pts W H (hcol M x b) (nb = 8) (M' 11) (M' 10 4) (M' 12) (M' 13)) := by
  have nx : ∀ j : Int, ¬ ((x = 10 ∧ j = 4) ∨ x = 11 ∨ x = 12 ∨ x = 13 ∨ x = 14) := fun j => by
    have x10 := hx2 10 (by omega) (by omega)
    have x11 := hx2 11 (by omega) (by omega)
    have x12 := hx2 12 (by omega) (by omega)
    have x13 := hx2 13 (by omega) (by omega)
    have x14 := hx2 14 (by omega) (by omega)
    omega
  have nx1 : ∀ j : Int, ¬ ((x + 1 = 10 ∧ j = 4) ∨ x + 1 = 11 ∨ x + 1 = 12 ∨ x + 1 = 13 ∨ x + 1 = 14) := fun j => by
    have x10 := hx2 10 (by omega) (by omega)
    have x11 := hx2 11 (by omega) (by omega)
    have x12 := hx2 12 (by omega) (by omega)
    have x13 := hx2 13 (by omega) (by omega)
    have x14 := hx2 14 (by omega) (by omega)
    omega
  replace hnb := Hid.mk hnb
  refine rC1.of (by decide) (LE0 rfl) ?_
  refine rh1.of (rX6_find_0 hh _ _ _ _ hx ?_)
  have key : ∀ (v : Nat) (k : Int) (M' : rhM), (W * H - k).toNat = v → (0 ≤ k) → (k ≤ W * H) → (frx (fun a j => (a = 10 ∧ j = 4) ∨ a = 11 ∨ a = 12 ∨ a = 13 ∨ a = 14) M M') → (M' 10 4 = 0) → (∀ j, 0 ≤ j ∧ j < k → M' 11 j = -1) → rh1 wh YX6_find 2 8 [(0, 2, 10), (1, 2, x), (2, 0, b), (3, 0, nb), (4, 0, k)] [] M' (fun r M' => r = 0 ∧ frx (fun a j => (a = 10 ∧ j = 4) ∨ a = 11 ∨ a = 12 ∨ a = 13 ∨ a = 14) M M' ∧ Pts W H (hcol M x b) (nb = 8) (M' 11) (M' 10 4) (M' 12) (M' 13)) := by
    intro v
    induction v using Nat.strongRecOn with
    | ind v ih =>
      intro k M' hv k0 k1 f hc hz
      refine rh1.of (rX6_find_8 hh _ _ _ _ _ hx ?_)
      rw [show M' x 1 = W by rw [f x 1 (nx 1), hW], show M' x 2 = H by rw [f x 2 (nx 2), hH]]
      refine ⟨⟨by omega, by omega⟩, fun c => ⟨⟨by omega, by omega⟩, ⟨by omega, by omega⟩, ?_⟩, fun c => ?_⟩
      · refine ih _ (by omega) (k + 1) _ rfl (by omega) (by omega) (f.st (.inr (.inl rfl))) (by rw [rh_set_a (by decide)]; exact hc) (fun j hj => ?_)
        by_cases q : j = k
        · rw [q, rh_set_s]
        · rw [rh_set_j q]; exact hz j ⟨by omega, by omega⟩
      · have hk : k = W * H := (by omega)
        subst hk
        have key2 : ∀ (v : Nat) (k : Int) (M' : rhM), (W * H - k).toNat = v → (0 ≤ k) → (k ≤ W * H) → (frx (fun a j => (a = 10 ∧ j = 4) ∨ a = 11 ∨ a = 12 ∨ a = 13 ∨ a = 14) M M') → (Lw W (W * H) (hcol M x b) (nb = 8) (M' 11) (M' 10 4) k) → (∀ j, 0 ≤ j ∧ j < W * H → -1 ≤ M' 11 j) → (M' 10 4 ≤ k) → (∀ c, 0 ≤ c → c < M' 10 4 → M' 12 c = nct (M' 11) c (W * H).toNat ∧ (M' 13 c = 0 ∨ M' 13 c = 1) ∧ (M' 13 c = 1 ↔ ∃ k, (0 ≤ k ∧ k < W * H) ∧ M' 11 k = c ∧ brd W H k)) → rh1 wh YX6_find 2 34 [(0, 2, 10), (1, 2, x), (2, 0, b), (3, 0, nb), (4, 0, k)] [] M' (fun r M' => r = 0 ∧ frx (fun a j => (a = 10 ∧ j = 4) ∨ a = 11 ∨ a = 12 ∨ a = 13 ∨ a = 14) M M' ∧ Pts W H (hcol M x b) (nb = 8) (M' 11) (M' 10 4) (M' 12) (M' 13)) := by
          intro v
          induction v using Nat.strongRecOn with
          | ind v ih2 =>
            intro k M' hv k0 k1 f hL hm hck hA
            refine rh1.of (rX6_find_34 hh _ _ _ _ _ hx ?_)
            have w1 : M' x 1 = W := by rw [f x 1 (nx 1), hW]
            have w2 : M' x 2 = H := by rw [f x 2 (nx 2), hH]
            have wc : M' (x + 1) = M (x + 1) := f.cell nx1
            have ok : rI (k + 1) := ⟨by omega, by omega⟩
            have hcl : hcol M' x b = hcol M x b := by unfold hcol; rw [wc]
            have hc0 := hL.2.2.2.2.2
            rw [w1, w2]
            refine ⟨⟨by omega, by omega⟩, fun c => ⟨⟨by omega, by omega⟩, fun _ => ⟨by omega, by omega⟩, fun z => ?_, fun z => ⟨ok, ?_⟩⟩, fun c => ⟨rfl, f, hL.fin (by omega) hm (by omega), (by omega), hA⟩⟩
            · have hz : hcol M' x b k := z.2
              obtain ⟨r, M1, E1, -, f1, ⟨st, F1⟩, g1, g2, g3⟩ := c_flood hh hx hx2 M' w1 w2 hW0 hWb hHb hN0 hN hnb.out (s := k) (c := M' 10 4) ⟨by omega, by omega⟩ rfl ⟨by omega, by omega⟩ hz z.1 (fun j hj q => by
                have h1 := (hL.1 j hj).1
                have := h1 (by rw [q]; omega)
                omega)
              rw [hcl] at F1
              replace g2 := Hid.mk g2
              replace g3 := Hid.mk g3
              refine rh1.s (vX6_find_70 hh E1 (LE0 rfl)) ?_
              refine rh1.of (rX6_find_73 hh _ _ _ _ _ hx ?_)
              have q1 : M1 10 4 = M' 10 4 := f1 10 4 (by omega)
              have Ff := F1.fin (by omega) ⟨by omega, by omega⟩ (fun a d ha hd hla had hcd => by rw [hL.2.1 a d ha hd hla had hcd]; exact hla)
              rw [q1]
              refine ⟨⟨by omega, by omega⟩, ⟨by omega, by omega⟩, ?_⟩
              have s11 : rh_set M1 10 4 (M' 10 4 + 1) 11 = M1 11 := rh_set_n (by decide)
              have s12 : rh_set M1 10 4 (M' 10 4 + 1) 12 = M1 12 := rh_set_n (by decide)
              have s13 : rh_set M1 10 4 (M' 10 4 + 1) 13 = M1 13 := rh_set_n (by decide)
              have s10 : rh_set M1 10 4 (M' 10 4 + 1) 10 4 = M' 10 4 + 1 := rh_set_s _ _ _ _
              refine ih2 _ (by omega) (k + 1) _ rfl (by omega) (by omega) ((f.tr (f1.w (fun a j h => by omega))).st (.inl ⟨rfl, rfl⟩)) ?_ ?_ (by omega) ?_
              · rw [s11, s10]
                exact hL.flood ⟨by omega, by omega⟩ (by rw [← hcl]; exact hz) z.1 Ff
              · intro j hj
                rw [s11]
                by_cases q : M1 11 j = M' 10 4
                · rw [q]; omega
                · rw [(Ff j hj).2.1 q]; exact hm j hj
              · intro c c0 c1
                rw [s10] at c1
                rw [s11, s12, s13]
                by_cases q : c = M' 10 4
                · subst q; exact ⟨g1, g2.out, g3.out⟩
                · obtain ⟨a1, a2, a3⟩ := hA c c0 (by omega)
                  have hiff : ∀ j, 0 ≤ j ∧ j < W * H → (M1 11 j = c ↔ M' 11 j = c) := fun j hj => by
                    by_cases q2 : M1 11 j = M' 10 4
                    · have := ((Ff j hj).2.2 q2).1
                      omega
                    · rw [(Ff j hj).2.1 q2]
                  rw [f1 12 c (by omega), f1 13 c (by omega)]
                  refine ⟨?_, a2, a3.trans ?_⟩
                  · rw [a1]; exact (nct_cg _ (fun j j0 j1 => hiff j ⟨j0, by omega⟩)).symm
                  · exact ⟨fun ⟨j, h1, h2, h3⟩ => ⟨j, h1, (hiff j h1).mpr h2, h3⟩, fun ⟨j, h1, h2, h3⟩ => ⟨j, h1, (hiff j h1).mp h2, h3⟩⟩
            · replace z := Hid.mk z
              refine ih2 _ (by omega) (k + 1) _ rfl (by omega) (by omega) f (hL.next (fun hk => ?_)) hm (by omega) hA
              intro hl
              exact z.out ⟨hl, by rw [← hcl] at hk; exact hk⟩
        exact key2 _ 0 M' rfl (by omega) (by omega) f (by rw [hc]; exact Lw.zero hz) (fun j hj => by rw [hz j hj]; omega) (by omega) (fun c c0 c1 => by omega)
  exact key _ 0 _ rfl (by omega) (by omega) (frx.rf.st (.inl ⟨rfl, rfl⟩)) (rh_set_s _ _ _ _) (fun j hj => by omega)
theorem sp_c {eb a b u v W H : Int} : ((eb ≠ 0 ∧ (0 ≤ u ∧ (0 ≤ v ∧ (u < W ∧ v < H)))) ∨ (eb = 0 ∧ ((a = 0 ∧ (0 ≤ u ∧ (0 ≤ v ∧ (u < W ∧ v < H)))) ∨ (a ≠ 0 ∧ (b = 0 ∧ (0 ≤ u ∧ (0 ≤ v ∧ (u < W ∧ v < H)))))))) ↔ ((eb ≠ 0 ∨ a = 0 ∨ b = 0) ∧ 0 ≤ u ∧ u < W ∧ 0 ≤ v ∧ v < H) := by
  constructor <;> intro h <;> omega
/-- one flood of the model: cells 9 (labels), 10 (those that wait), 0[19] the number -/
theorem c_spread (hm : rh_ms wm) {b eb s c W H : Int} (M : rhM) (hW : M 0 17 = W) (hH : M 0 18 = H) (hW0 : 0 ≤ W) (hWb : W ≤ 128) (hHb : H ≤ 96) (hN0 : 0 ≤ W * H) (hN : W * H ≤ 6144)
    (hs : 0 ≤ s ∧ s < W * H) (hc : M 0 19 = c) (hc0 : 0 ≤ c ∧ c < 6144) (hcol : M 11 s = b) (hl : M 9 s = -1) (hn : ∀ k, 0 ≤ k ∧ k < W * H → M 9 k ≠ c) :
    rC1 wm YX32_spread 0 [(2, 0), (0, s), (0, b), (0, eb)] M (fun r M' => r = 0 ∧ frx (fun a _ => a = 9 ∨ a = 10) M M' ∧ ∃ st, Fl W (W * H) (fun k => M 11 k = b) (eb ≠ 0) (M 9) c s (M' 9) 0 st) := by
  have hW1 : 0 < W := wpos hW0 hs.1 hs.2
  have hcn : c ≠ -1 := (by omega)
  generalize hNN : W * H = N at *
  have hNn : ((N.toNat : Nat) : Int) = N := Int.toNat_of_nonneg hN0
  refine rC1.of (by decide) (LE0 rfl) ?_
  refine rh1.of (rX32_spread_0 hm _ _ _ _ ?_)
  intro x300 e300
  rw [rh_set_a (by decide), hc] at e300
  subst e300
  refine ⟨⟨by omega, by omega⟩, ?_⟩
  have key : ∀ (v : Nat) (hi : Int) (M' : rhM), (2 * nct (M' 9) (-1) N.toNat + hi).toNat = v → 0 ≤ hi → frx (fun a _ => a = 9 ∨ a = 10) M M' → Fl W N (fun k => M 11 k = b) (eb ≠ 0) (M 9) x300 s (M' 9) hi (M' 10) → (∃ ar, 0 ≤ ar ∧ ar + hi = nct (M' 9) x300 N.toNat) →
      rh1 wm YX32_spread 0 20 [(0, 2, 0), (2, 0, b), (3, 0, eb), (4, 0, hi)] [] M' (fun r M' => r = 0 ∧ frx (fun a _ => a = 9 ∨ a = 10) M M' ∧ ∃ st, Fl W N (fun k => M 11 k = b) (eb ≠ 0) (M 9) x300 s (M' 9) 0 st) := by
    intro v
    induction v using Nat.strongRecOn with
    | ind v ih =>
      intro hi M' hv h0 f F har
      obtain ⟨ar, ar0, ar1⟩ := har
      have nb1 := nct_b (M' 9) (-1) N.toNat
      have nb2 := nct_b (M' 9) x300 N.toNat
      have w1 : M' 0 17 = W := by rw [f 0 17 (by omega), hW]
      have w2 : M' 0 18 = H := by rw [f 0 18 (by omega), hH]
      refine rh1.of (rX32_spread_20 hm _ _ _ _ ?_)
      rw [w1]
      refine ⟨fun c => ?_, fun c => ⟨rfl, f, M' 10, by rw [show hi = 0 by omega] at F; exact F⟩⟩
      have P := F.pop c
      have hp := P.2.2.2.2.1
      rw [show hi + -1 = hi - 1 by omega]
      have bp := dm_b hW1 hp.1.1 (by rw [hNN]; exact hp.1.2)
      have dmp := dm (M' 10 (hi - 1)) W
      refine ⟨⟨by omega, by omega⟩, ⟨by omega, by omega⟩, ⟨hp.1.1, hW1⟩, fun px epx => ⟨⟨by omega, by omega⟩, ⟨hp.1.1, hW1⟩, fun py epy => ?_⟩⟩
      have key2 : ∀ (u : Nat) (d hi2 : Int) (M4 : rhM), (9 - d).toNat = u → 0 ≤ d → d ≤ 9 → 0 ≤ hi2 → frx (fun a _ => a = 9 ∨ a = 10) M M4 → Fp W N (fun k => M 11 k = b) (eb ≠ 0) (M 9) x300 s (M' 10 (hi - 1)) (fun z => ∃ e, 0 ≤ e ∧ e < d ∧ z % W = px + (e % 3 - 1) ∧ z / W = py + (e / 3 - 1) ∧ (eb ≠ 0 ∨ e % 3 - 1 = 0 ∨ e / 3 - 1 = 0)) (M4 9) hi2 (M4 10) → (∃ ar, 0 ≤ ar ∧ ar + hi2 = nct (M4 9) x300 N.toNat) → 2 * nct (M4 9) (-1) N.toNat + hi2 < 2 * nct (M' 9) (-1) N.toNat + hi →
          rh1 wm YX32_spread 0 59 [(0, 2, 0), (2, 0, b), (3, 0, eb), (4, 0, hi2), (5, 0, px), (6, 0, py), (7, 0, d)] [] M4 (fun r M' => r = 0 ∧ frx (fun a _ => a = 9 ∨ a = 10) M M' ∧ ∃ st, Fl W N (fun k => M 11 k = b) (eb ≠ 0) (M 9) x300 s (M' 9) 0 st) := by
        intro u
        induction u using Nat.strongRecOn with
        | ind u ih2 =>
          intro d hi2 M4 hu d0 d1 g0 f4 F4 ha4 me
          obtain ⟨a4, a40, a41⟩ := ha4
          have y1 : M4 0 17 = W := by rw [f4 0 17 (by omega), hW]
          have y2 : M4 0 18 = H := by rw [f4 0 18 (by omega), hH]
          have y3 : M4 0 19 = x300 := by rw [f4 0 19 (by omega), hc]
          have y11 : M4 11 = M 11 := f4.cell (fun j => (by omega))
          refine rh1.of (rX32_spread_59 hm _ _ _ _ _ _ _ ?_)
          rw [y1, y2, y3]
          refine ⟨fun c2 => ?_, fun c2 => ?_⟩
          · have em3 := Int.emod_nonneg d (show (3 : Int) ≠ 0 by decide)
            have em4 := Int.emod_lt_of_pos d (show (0 : Int) < 3 by decide)
            have em5 : 0 ≤ d / 3 ∧ d / 3 ≤ 2 := ⟨by omega, by omega⟩
            refine ⟨⟨by omega, by omega⟩, ⟨by omega, by omega⟩, ⟨by omega, by omega⟩, ⟨by omega, by omega⟩, ⟨by omega, by omega⟩, ⟨by omega, by omega⟩, fun q eq => ?_⟩
            have hq : q ≠ 0 ↔ ((eb ≠ 0 ∨ d % 3 - 1 = 0 ∨ d / 3 - 1 = 0) ∧ 0 ≤ px + (d % 3 - 1) ∧ px + (d % 3 - 1) < W ∧ 0 ≤ py + (d / 3 - 1) ∧ py + (d / 3 - 1) < H) := by
              rw [eq, rh_if]
              split
              · rename_i h; exact ⟨fun _ => sp_c.mp h, fun _ => by decide⟩
              · rename_i h; exact ⟨fun z => absurd rfl z, fun z => absurd (sp_c.mpr z) h⟩
            have hin : q ≠ 0 → 0 ≤ (py + (d / 3 - 1)) * W + (px + (d % 3 - 1)) ∧ (py + (d / 3 - 1)) * W + (px + (d % 3 - 1)) < N := fun z => by
              have hz := hq.mp z
              have m1 := mul_lt hz.2.1 hz.2.2.1 hz.2.2.2.1 hz.2.2.2.2
              have m2 := mul_nn (a := W) (b := py + (d / 3 - 1)) (by omega) hz.2.2.2.1
              rw [Int.mul_comm (py + (d / 3 - 1)) W]
              exact ⟨(by omega), (by omega)⟩
            have oin : q ≠ 0 → 0 ≤ (py + (d / 3 - 1)) * W + (px + (d % 3 - 1)) ∧ (py + (d / 3 - 1)) * W + (px + (d % 3 - 1)) < 6144 := fun z => by have := hin z; exact ⟨(by omega), (by omega)⟩
            replace hq := Hid.mk hq
            replace hin := Hid.mk hin
            replace oin := Hid.mk oin
            have od : rI (d + 1) := ⟨by omega, by omega⟩
            have om : (9 - (d + 1)).toNat < u := (by omega)
            have od3 : d + 1 ≤ 9 := (by omega)
            have od4 : 0 ≤ d + 1 := (by omega)
            refine ⟨fun z => oin.out z, fun z _ => oin.out z, fun z => ?_, fun z => ⟨od, ?_⟩⟩
            · have hz := hin.out z.1
              have hzq0 := Hid.mk (hq.out.mp z.1).1
              have hzq := (hq.out.mp z.1).2
              refine ⟨⟨(by omega), (by omega)⟩, fun M5 eM5 => ?_⟩
              have y17 : M5 0 17 = W := by rw [eM5, rh_set_a (by decide), y1]
              rw [y17]
              intro at_ eat
              rw [← eat] at hz z eM5
              have zl := z.2.2
              have zc := z.2.1
              clear z
              have hxy := dm_x (W := W) (v := py + (d / 3 - 1)) hzq.1 hzq.2.1
              rw [Int.mul_comm W, ← eat] at hxy
              have un := nct_pos (f := M4 9) (i := at_) hz.1 zl N.toNat (by omega)
              have tw := nct_two (M4 9) (c := x300) (d := -1) hcn N.toNat
              have hcolj : M 11 at_ = b := by rw [← y11]; exact zc
              refine ⟨⟨by omega, by omega⟩, ⟨by omega, by omega⟩, ⟨by omega, by omega⟩, od, ?_⟩
              have s9 : rh_set M5 10 hi2 at_ 9 = upz (M4 9) at_ x300 := by rw [rh_set_n (by decide), eM5, rh_set_f]
              have s10 : rh_set M5 10 hi2 at_ 10 = upz (M4 10) hi2 at_ := by rw [rh_set_f, eM5, rh_set_n (by decide)]
              have hac : M4 9 at_ ≠ x300 := by rw [zl]; exact fun q => hcn q.symm
              have up := nct_up hz.1 hac N.toNat (by omega)
              have dn := nct_dn hz.1 zl hcn N.toNat (by omega)
              refine ih2 _ om (d + 1) (hi2 + 1) _ rfl od4 od3 (by omega) (by rw [eM5]; exact (f4.st (.inl rfl)).st (.inr rfl)) ?_ ⟨a4, a40, by rw [s9, up]; omega⟩ (by rw [s9, dn]; omega)
              rw [s9, s10]
              refine (F4.push hcn g0 hz ⟨?_, ?_, ?_⟩ hcolj zl).more (fun q qr ⟨e, e0, e1, e2, e3, e4⟩ _ => ?_)
              · rw [hxy.1, ← epx]; exact ⟨(by omega), (by omega)⟩
              · rw [hxy.2, ← epy]; exact ⟨(by omega), (by omega)⟩
              · rw [hxy.1, hxy.2, ← epx, ← epy]
                rcases hzq0.out with h | h | h
                · exact .inl h
                · exact .inr (.inl (by omega))
                · exact .inr (.inr (by omega))
              · by_cases he : e = d
                · subst he
                  refine .inl (.inr ?_)
                  rw [dm q W, e2, e3, eat, Int.mul_comm W]
                · exact .inl (.inl ⟨e, e0, (by omega), e2, e3, e4⟩)
            · replace z := Hid.mk z
              refine ih2 _ om (d + 1) hi2 _ rfl od4 od3 g0 f4 (F4.more (fun q qr ⟨e, e0, e1, e2, e3, e4⟩ qc => ?_)) ⟨a4, a40, a41⟩ me
              by_cases he : e = d
              · subst he
                have bq := dm_b hW1 qr.1 (by rw [hNN]; exact qr.2)
                have hq2 : q = (py + (e / 3 - 1)) * W + (px + (e % 3 - 1)) := by rw [Int.mul_comm, ← e2, ← e3]; exact dm q W
                refine .inr (fun ql => z.out ⟨hq.out.mpr ⟨e4, ?_⟩, ?_, ?_⟩)
                · rw [← e2, ← e3]; exact ⟨bq.1.1, bq.1.2, bq.2.1, bq.2.2⟩
                · rw [← hq2, y11]; exact qc
                · rw [← hq2]; exact ql
              · exact .inl ⟨e, e0, (by omega), e2, e3, e4⟩
          · refine ih _ (by omega) hi2 M4 rfl g0 f4 (F4.done hcn (fun j jr ja => ?_)) ⟨a4, a40, a41⟩
            obtain ⟨j1, j2, j3⟩ := ja
            rw [← epx] at j1
            rw [← epy] at j2
            rw [← epx, ← epy] at j3
            replace j3 := Hid.mk j3
            refine .inr ⟨3 * (j / W - py + 1) + (j % W - px + 1), (by omega), (by omega), (by omega), (by omega), ?_⟩
            rcases j3.out with h | h | h
            · exact .inl h
            · exact .inr (.inl (by omega))
            · exact .inr (.inr (by omega))
      refine key2 _ 0 (hi - 1) _ rfl (by omega) (by omega) (by omega) f ?_ ⟨ar + 1, (by omega), (by omega)⟩ (by omega)
      exact P.more (fun q _ ⟨e, e0, e1, _⟩ _ => by omega)
  have s9 : rh_set (rh_set M 10 0 s) 9 s x300 9 = upz (M 9) s x300 := by rw [rh_set_f, rh_set_n (by decide)]
  have s10 : rh_set (rh_set M 10 0 s) 9 s x300 10 0 = s := by rw [rh_set_a (by decide), rh_set_s]
  refine key _ 1 _ rfl (by omega) ((frx.rf.st (.inr rfl)).st (.inl rfl)) ?_ ⟨0, (by omega), ?_⟩
  · rw [s9]; exact Fl.init hs hcol hl hn s10
  · rw [s9, nct_up hs.1 (hn s hs) N.toNat (by omega), nct_0 N.toNat (fun j j0 j1 => hn j ⟨by omega, by omega⟩)]
theorem c_labelAll (hm : rh_ms wm) {b eb W H : Int} (M : rhM) (hW : M 0 17 = W) (hH : M 0 18 = H) (hW0 : 0 ≤ W) (hWb : W ≤ 128) (hHb : H ≤ 96) (hN0 : 0 ≤ W * H) (hN : W * H ≤ 6144) :
    rC1 wm YX32_labelAll 1 [(2, 0), (0, b), (0, eb)] M (fun r M' => r = 0 ∧ frx (fun a j => (a = 0 ∧ j = 19) ∨ a = 9 ∨ a = 10) M M' ∧ Lb W (W * H) (fun k => M 11 k = b) (eb ≠ 0) (M' 9) (M' 0 19) ∧ M' 0 19 ≤ W * H) := by
  refine rC1.of (by decide) (LE0 rfl) ?_
  refine rh1.of (rX32_labelAll_0 hm _ _ _ ?_)
  have key : ∀ (v : Nat) (k : Int) (M' : rhM), (W * H - k).toNat = v → (0 ≤ k) → (k ≤ W * H) → (frx (fun a j => (a = 0 ∧ j = 19) ∨ a = 9 ∨ a = 10) M M') → (M' 0 19 = 0) → (∀ j, 0 ≤ j ∧ j < k → M' 9 j = -1) → rh1 wm YX32_labelAll 1 7 [(0, 2, 0), (1, 0, b), (2, 0, eb), (3, 0, k)] [] M' (fun r M' => r = 0 ∧ frx (fun a j => (a = 0 ∧ j = 19) ∨ a = 9 ∨ a = 10) M M' ∧ Lb W (W * H) (fun k => M 11 k = b) (eb ≠ 0) (M' 9) (M' 0 19) ∧ M' 0 19 ≤ W * H) := by
    intro v
    induction v using Nat.strongRecOn with
    | ind v ih =>
      intro k M' hv k0 k1 f hc hz
      refine rh1.of (rX32_labelAll_7 hm _ _ _ _ ?_)
      rw [show M' 0 17 = W by rw [f 0 17 (by omega), hW], show M' 0 18 = H by rw [f 0 18 (by omega), hH]]
      refine ⟨⟨by omega, by omega⟩, fun c => ⟨⟨by omega, by omega⟩, ⟨by omega, by omega⟩, ?_⟩, fun c => ?_⟩
      · refine ih _ (by omega) (k + 1) _ rfl (by omega) (by omega) (f.st (.inr (.inl rfl))) (by rw [rh_set_a (by decide)]; exact hc) (fun j hj => ?_)
        by_cases q : j = k
        · rw [q, rh_set_s]
        · rw [rh_set_j q]; exact hz j ⟨by omega, by omega⟩
      · have hk : k = W * H := (by omega)
        subst hk
        have key2 : ∀ (v : Nat) (k : Int) (M' : rhM), (W * H - k).toNat = v → (0 ≤ k) → (k ≤ W * H) → (frx (fun a j => (a = 0 ∧ j = 19) ∨ a = 9 ∨ a = 10) M M') → (Lw W (W * H) (fun k => M 11 k = b) (eb ≠ 0) (M' 9) (M' 0 19) k) → (∀ j, 0 ≤ j ∧ j < W * H → -1 ≤ M' 9 j) → (M' 0 19 ≤ k) → rh1 wm YX32_labelAll 1 35 [(0, 2, 0), (1, 0, b), (2, 0, eb), (3, 0, k)] [] M' (fun r M' => r = 0 ∧ frx (fun a j => (a = 0 ∧ j = 19) ∨ a = 9 ∨ a = 10) M M' ∧ Lb W (W * H) (fun k => M 11 k = b) (eb ≠ 0) (M' 9) (M' 0 19) ∧ M' 0 19 ≤ W * H) := by
          intro v
          induction v using Nat.strongRecOn with
          | ind v ih2 =>
            intro k M' hv k0 k1 f hL hm9 hck
            refine rh1.of (rX32_labelAll_35 hm _ _ _ _ ?_)
            have w1 : M' 0 17 = W := by rw [f 0 17 (by omega), hW]
            have w2 : M' 0 18 = H := by rw [f 0 18 (by omega), hH]
            have w11 : M' 11 = M 11 := f.cell (fun j => (by omega))
            have hc0 := hL.2.2.2.2.2
            rw [w1, w2]
            refine ⟨⟨by omega, by omega⟩, fun c => ⟨⟨by omega, by omega⟩, fun _ => ⟨by omega, by omega⟩, fun z => ?_, fun z => ⟨⟨by omega, by omega⟩, ?_⟩⟩, fun c => ⟨rfl, f, hL.fin (by omega) hm9 (by omega), (by omega)⟩⟩
            · obtain ⟨r, M1, E1, -, f1, ⟨st, F1⟩⟩ := c_spread hm (eb := eb) M' w1 w2 hW0 hWb hHb hN0 hN (s := k) (c := M' 0 19) ⟨by omega, by omega⟩ rfl ⟨by omega, by omega⟩ z.1 z.2 (fun j hj q => by
                have h1 := (hL.1 j hj).1
                have := h1 (by rw [q]; omega)
                omega)
              rw [w11] at F1
              refine rh1.s (vX32_labelAll_72 hm E1 (LE0 rfl)) ?_
              refine rh1.of (rX32_labelAll_75 hm _ _ _ _ ?_)
              have q1 : M1 0 19 = M' 0 19 := f1 0 19 (by omega)
              have Ff := F1.fin (by omega) ⟨by omega, by omega⟩ (fun a d ha hd hla had hcd => by rw [hL.2.1 a d ha hd hla had hcd]; exact hla)
              rw [q1]
              refine ⟨⟨by omega, by omega⟩, ⟨by omega, by omega⟩, ?_⟩
              have s9 : rh_set M1 0 19 (M' 0 19 + 1) 9 = M1 9 := rh_set_n (by decide)
              have s19 : rh_set M1 0 19 (M' 0 19 + 1) 0 19 = M' 0 19 + 1 := rh_set_s _ _ _ _
              refine ih2 _ (by omega) (k + 1) _ rfl (by omega) (by omega) ((f.tr (f1.w (fun a j h => by omega))).st (.inl ⟨rfl, rfl⟩)) ?_ ?_ (by omega)
              · rw [s9, s19]
                exact hL.flood ⟨by omega, by omega⟩ (by rw [← w11]; exact z.1) z.2 Ff
              · intro j hj
                rw [s9]
                by_cases q : M1 9 j = M' 0 19
                · rw [q]; omega
                · rw [(Ff j hj).2.1 q]; exact hm9 j hj
            · replace z := Hid.mk z
              refine ih2 _ (by omega) (k + 1) _ rfl (by omega) (by omega) f (hL.next (fun hk => ?_)) hm9 (by omega)
              intro hl
              exact z.out ⟨by rw [w11]; exact hk, hl⟩
        exact key2 _ 0 M' rfl (by omega) (by omega) f (by rw [hc]; exact Lw.zero hz) (fun j hj => by rw [hz j hj]; omega) (by omega)
  exact key _ 0 _ rfl (by omega) (by omega) (frx.rf.st (.inl ⟨rfl, rfl⟩)) (rh_set_s _ _ _ _) (fun j hj => by omega)
end Labels
