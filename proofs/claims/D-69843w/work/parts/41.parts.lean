/-! ===== LAYER 2: Parts.find, labelAll ===== -/
section Parts
variable {wh wm : rhW}
/-- hidden from omega -/
def Hid (P : Prop) : Prop := P
theorem Hid.mk {P : Prop} (h : P) : Hid P := h
theorem Hid.out {P : Prop} (h : Hid P) : P := h
theorem rh_ifd {α : Type} {P : Prop} [Decidable P] {a b : α} : rh_if P a b = if P then a else b := by
  by_cases h : P
  · rw [rh_if_t h, if_pos h]
  · rw [rh_if_f h, if_neg h]
theorem dm (z W : Int) : z = W * (z / W) + z % W := by
  have := Int.emod_def z W
  omega
theorem dm_x {W u v : Int} (h0 : 0 ≤ u) (h1 : u < W) : (W * v + u) % W = u ∧ (W * v + u) / W = v := by
  constructor
  · rw [Int.add_comm, Int.add_mul_emod_self_left, Int.emod_eq_of_lt h0 h1]
  · rw [Int.add_comm, Int.add_mul_ediv_left _ _ (by omega), Int.ediv_eq_zero_of_lt h0 h1]
    omega
/-- a pixel's column and row -/
theorem dm_b {W H z : Int} (hW : 0 < W) (h0 : 0 ≤ z) (h1 : z < W * H) : (0 ≤ z % W ∧ z % W < W) ∧ (0 ≤ z / W ∧ z / W < H) :=
  ⟨⟨Int.emod_nonneg z (by omega), Int.emod_lt_of_pos z hW⟩, Int.ediv_nonneg h0 (by omega), Int.ediv_lt_of_lt_mul hW (by rw [Int.mul_comm]; exact h1)⟩
theorem wpos {W H z : Int} (hW : 0 ≤ W) (h0 : 0 ≤ z) (h1 : z < W * H) : 0 < W := by
  rcases Int.lt_or_eq_of_le hW with h | h
  · exact h
  · rw [← h, Int.zero_mul] at h1; omega
theorem tb01 (d : Int) (d0 : 0 ≤ d) (d1 : d < 8) : (-1 ≤ rh_tb 0 d ∧ rh_tb 0 d ≤ 1) ∧ (-1 ≤ rh_tb 1 d ∧ rh_tb 1 d ≤ 1) ∧ (d < 4 → rh_tb 0 d = 0 ∨ rh_tb 1 d = 0) := by
  have h : (List.range 8).all (fun n => decide ((-1 ≤ rh_tb 0 ((n : Nat) : Int) ∧ rh_tb 0 (n : Int) ≤ 1) ∧ (-1 ≤ rh_tb 1 (n : Int) ∧ rh_tb 1 (n : Int) ≤ 1) ∧ ((n : Int) < 4 → rh_tb 0 (n : Int) = 0 ∨ rh_tb 1 (n : Int) = 0))) = true := by decide +kernel
  have h2 := of_decide_eq_true (List.all_eq_true.mp h d.toNat (List.mem_range.mpr (by omega)))
  rwa [Int.toNat_of_nonneg d0] at h2
theorem tb01x {a b : Int} (ha : -1 ≤ a ∧ a ≤ 1) (hb : -1 ≤ b ∧ b ≤ 1) (hn : ¬ (a = 0 ∧ b = 0)) : ∃ e : Int, 0 ≤ e ∧ e < 8 ∧ rh_tb 0 e = a ∧ rh_tb 1 e = b ∧ (a = 0 ∨ b = 0 → e < 4) := by
  have ha : a = -1 ∨ a = 0 ∨ a = 1 := (by omega)
  have hb : b = -1 ∨ b = 0 ∨ b = 1 := (by omega)
  rcases ha with rfl | rfl | rfl <;> rcases hb with rfl | rfl | rfl
  · exact ⟨4, by decide, by decide, by decide +kernel, by decide +kernel, by decide⟩
  · exact ⟨2, by decide, by decide, by decide +kernel, by decide +kernel, by decide⟩
  · exact ⟨6, by decide, by decide, by decide +kernel, by decide +kernel, by decide⟩
  · exact ⟨0, by decide, by decide, by decide +kernel, by decide +kernel, by decide⟩
  · exact absurd ⟨rfl, rfl⟩ hn
  · exact ⟨1, by decide, by decide, by decide +kernel, by decide +kernel, by decide⟩
  · exact ⟨5, by decide, by decide, by decide +kernel, by decide +kernel, by decide⟩
  · exact ⟨3, by decide, by decide, by decide +kernel, by decide +kernel, by decide⟩
  · exact ⟨7, by decide, by decide, by decide +kernel, by decide +kernel, by decide⟩
theorem or01 {a b : Int} (ha : a = 0 ∨ a = 1) (hb : b = 0 ∨ b = 1) : (rh_or a b = 0 ∨ rh_or a b = 1) ∧ (rh_or a b = 1 ↔ (a = 1 ∨ b = 1)) := by
  rcases ha with rfl | rfl <;> rcases hb with rfl | rfl <;> decide +kernel
def brd (W H k : Int) : Prop := k % W = 0 ∨ k / W = 0 ∨ k % W = W - 1 ∨ k / W = H - 1
/-- black pixels of a sheet of the house -/
def hcol (M : rhM) (x b : Int) : Int → Prop := fun k => rh_if (rh_and (M (x + 1) k) 255 < 128) (1 : Int) 0 = b
def frx (F : Int → Int → Prop) (M M' : rhM) : Prop := ∀ a j : Int, ¬ F a j → M' a j = M a j
theorem frx.rf {F : Int → Int → Prop} {M : rhM} : frx F M M := fun _ _ _ => rfl
theorem frx.tr {F : Int → Int → Prop} {M M' M'' : rhM} (h : frx F M M') (h2 : frx F M' M'') : frx F M M'' := fun a j ha => (h2 a j ha).trans (h a j ha)
theorem frx.st {F : Int → Int → Prop} {M M' : rhM} {r i v : Int} (h : frx F M M') (hr : F r i) : frx F M (rh_set M' r i v) := by
  intro a j ha
  rw [← h a j ha, rh_sets]
  by_cases q : a = r
  · by_cases q2 : j = i
    · rw [q, q2] at ha; exact absurd hr ha
    · rw [if_neg q2]; split <;> rfl
  · rw [if_neg q]
theorem frx.w {F G : Int → Int → Prop} {M M' : rhM} (h : frx F M M') (hg : ∀ a j, F a j → G a j) : frx G M M' := fun a j ha => h a j (fun hf => ha (hg a j hf))
theorem frx.cell {F : Int → Int → Prop} {M M' : rhM} (h : frx F M M') {a : Int} (ha : ∀ j, ¬ F a j) : M' a = M a := funext (fun j => h a j (ha j))
theorem frm.x {F : Int → Prop} {M M' : rhM} (h : frm F M M') : frx (fun a _ => F a) M M' := fun _ _ ha => h.at ha
/-- one flood of the house: cells 11 (labels), 12 (areas), 13 (edges), 14 (those that wait); 10[4] the number -/
theorem c_flood (hh : rh_hs wh) {x b nb s c W H : Int} (hx : rh_bl wh 5 x 0) (hx2 : ∀ a : Int, 10 ≤ a → a ≤ 14 → x ≠ a ∧ x + 1 ≠ a) (M : rhM) (hW : M x 1 = W) (hH : M x 2 = H) (hW0 : 0 ≤ W) (hWb : W ≤ 128) (hHb : H ≤ 96) (hN0 : 0 ≤ W * H) (hN : W * H ≤ 6144) (hnb : nb = 4 ∨ nb = 8)
    (hs : 0 ≤ s ∧ s < W * H) (hc : M 10 4 = c) (hc0 : 0 ≤ c ∧ c < 6144) (hcs : hcol M x b s) (hl : M 11 s = -1) (hn : ∀ k, 0 ≤ k ∧ k < W * H → M 11 k ≠ c) :
    rC1 wh YX6_flood 1 [(2, 10), (2, x), (0, b), (0, nb), (0, s)] M (fun r M' => r = 0 ∧ frx (fun a j => a = 11 ∨ a = 14 ∨ ((a = 12 ∨ a = 13) ∧ j = c)) M M' ∧ (∃ st, Fl W (W * H) (hcol M x b) (nb = 8) (M 11) c s (M' 11) 0 st) ∧ M' 12 c = nct (M' 11) c (W * H).toNat ∧ (M' 13 c = 0 ∨ M' 13 c = 1) ∧ (M' 13 c = 1 ↔ ∃ k, (0 ≤ k ∧ k < W * H) ∧ M' 11 k = c ∧ brd W H k)) := by
  have nx : ∀ j : Int, ¬ (x = 11 ∨ x = 14 ∨ ((x = 12 ∨ x = 13) ∧ j = c)) := fun j => by
    have x11 := hx2 11 (by omega) (by omega)
    have x12 := hx2 12 (by omega) (by omega)
    have x13 := hx2 13 (by omega) (by omega)
    have x14 := hx2 14 (by omega) (by omega)
    omega
  have nx1 : ∀ j : Int, ¬ (x + 1 = 11 ∨ x + 1 = 14 ∨ ((x + 1 = 12 ∨ x + 1 = 13) ∧ j = c)) := fun j => by
    have x11 := hx2 11 (by omega) (by omega)
    have x12 := hx2 12 (by omega) (by omega)
    have x13 := hx2 13 (by omega) (by omega)
    have x14 := hx2 14 (by omega) (by omega)
    omega
  have n10 : ¬ ((10 : Int) = 11 ∨ (10 : Int) = 14 ∨ (((10 : Int) = 12 ∨ (10 : Int) = 13) ∧ 4 = c)) := by simp
  have x12 := Hid.mk (hx2 12 (by omega) (by omega)).1
  replace hnb := Hid.mk hnb
  have hW1 : 0 < W := wpos hW0 hs.1 hs.2
  have hcn : c ≠ -1 := (by omega)
  generalize hNN : W * H = N at *
  have hNn : ((N.toNat : Nat) : Int) = N := Int.toNat_of_nonneg hN0
  refine rC1.of (by decide) (LE0 rfl) ?_
  refine rh1.of (rX6_flood_0 hh _ _ _ _ _ hx ?_)
  intro x300 e300
  rw [rh_set_a (by decide), hc] at e300
  subst e300
  refine ⟨⟨by omega, by omega⟩, fun M301 e301 => ?_⟩
  have c1 : M301 10 4 = x300 := by rw [e301, rh_set_a (by decide), rh_set_a (by decide), hc]
  rw [c1]
  refine ⟨hc0, fun M302 e302 => ?_⟩
  have c2 : M302 10 4 = x300 := by rw [e302, rh_set_a (by decide), c1]
  rw [c2]
  refine ⟨hc0, ?_⟩
  have key : ∀ (v : Nat) (hi : Int) (M' : rhM), (2 * nct (M' 11) (-1) N.toNat + hi).toNat = v → 0 ≤ hi → frx (fun a j => a = 11 ∨ a = 14 ∨ ((a = 12 ∨ a = 13) ∧ j = x300)) M M' → Fl W N (hcol M x b) (nb = 8) (M 11) x300 s (M' 11) hi (M' 14) → 0 ≤ M' 12 x300 → M' 12 x300 + hi = nct (M' 11) x300 N.toNat → Ed N (brd W H) (M' 11) x300 hi (M' 14) (M' 13 x300) →
      rh1 wh YX6_flood 1 42 [(0, 2, 10), (1, 2, x), (2, 0, b), (3, 0, nb), (5, 0, hi)] [] M' (fun r M' => r = 0 ∧ frx (fun a j => a = 11 ∨ a = 14 ∨ ((a = 12 ∨ a = 13) ∧ j = x300)) M M' ∧ (∃ st, Fl W N (hcol M x b) (nb = 8) (M 11) x300 s (M' 11) 0 st) ∧ M' 12 x300 = nct (M' 11) x300 N.toNat ∧ (M' 13 x300 = 0 ∨ M' 13 x300 = 1) ∧ (M' 13 x300 = 1 ↔ ∃ k, (0 ≤ k ∧ k < N) ∧ M' 11 k = x300 ∧ brd W H k)) := by
    intro v
    induction v using Nat.strongRecOn with
    | ind v ih =>
      intro hi M' hv h0 f F ar0 ar ed
      have nb1 := nct_b (M' 11) (-1) N.toNat
      have nb2 := nct_b (M' 11) x300 N.toNat
      have w1 : M' x 1 = W := by rw [f x 1 (nx 1), hW]
      have w2 : M' x 2 = H := by rw [f x 2 (nx 2), hH]
      have w3 : M' 10 4 = x300 := by rw [f 10 4 n10, hc]
      refine rh1.of (rX6_flood_42 hh _ _ _ _ _ hx ?_)
      rw [w1, w3]
      refine ⟨fun c => ?_, fun c => ⟨rfl, f, ⟨M' 14, by rw [show hi = 0 by omega] at F; exact F⟩, (by omega), ?_⟩⟩
      · have P := F.pop c
        have hp := P.2.2.2.2.1
        rw [show hi + -1 = hi - 1 by omega]
        have bp := dm_b hW1 hp.1.1 (by rw [hNN]; exact hp.1.2)
        have dmp := dm (M' 14 (hi - 1)) W
        refine ⟨⟨by omega, by omega⟩, ⟨by omega, by omega⟩, ⟨hp.1.1, hW1⟩, fun px epx => ⟨⟨hp.1.1, hW1⟩, fun py epy => ⟨hc0, fun a1 ea1 => ⟨hc0, ⟨by omega, by omega⟩, fun M3 eM3 => ?_⟩⟩⟩⟩
        have v1 : M3 x 1 = W := by rw [eM3, rh_set_a x12.out, w1]
        have v2 : M3 x 2 = H := by rw [eM3, rh_set_a x12.out, w2]
        have v3 : M3 10 4 = x300 := by rw [eM3, rh_set_a (by decide), w3]
        have v13 : M3 13 x300 = M' 13 x300 := by rw [eM3, rh_set_a (by decide)]
        rw [v1, v2, v3, v13]
        refine ⟨hc0, fun _ _ => ⟨by omega, by omega⟩, fun _ _ _ => ⟨by omega, by omega⟩, fun e1 ee1 => ?_⟩
        have ed0 := Hid.mk ed.1
        have hbr : rh_if (px = 0 ∨ py = 0 ∨ px = W - 1 ∨ py = H - 1) (1 : Int) 0 = 0 ∨ rh_if (px = 0 ∨ py = 0 ∨ px = W - 1 ∨ py = H - 1) (1 : Int) 0 = 1 := by
          rw [rh_if]; split
          · exact .inr rfl
          · exact .inl rfl
        have ho := or01 ed0.out hbr
        rw [← ee1] at ho
        have ho1 : 0 ≤ e1 ∧ e1 ≤ 1 := by
          rcases ho.1 with h | h <;> rw [h] <;> decide
        refine ⟨hc0, ho1, ?_⟩
        have hbr1 : (rh_if (px = 0 ∨ py = 0 ∨ px = W - 1 ∨ py = H - 1) (1 : Int) 0 = 1) ↔ brd W H (M' 14 (hi - 1)) := by
          unfold brd
          rw [← epx, ← epy, rh_if]
          split
          · rename_i h; exact ⟨fun _ => h, fun _ => rfl⟩
          · rename_i h; exact ⟨fun z => by omega, fun z => absurd z h⟩
        have ed2 := ed.pop c hp ho.1 (ho.2.trans (or_congr Iff.rfl hbr1))
        clear ho hbr hbr1
        -- the neighbours
        have key2 : ∀ (u : Nat) (d hi2 : Int) (M4 : rhM), (nb - d).toNat = u → 0 ≤ d → d ≤ nb → 0 ≤ hi2 → frx (fun a j => a = 11 ∨ a = 14 ∨ ((a = 12 ∨ a = 13) ∧ j = x300)) M M4 → Fp W N (hcol M x b) (nb = 8) (M 11) x300 s (M' 14 (hi - 1)) (fun z => ∃ e, 0 ≤ e ∧ e < d ∧ z % W = px + rh_tb 0 e ∧ z / W = py + rh_tb 1 e) (M4 11) hi2 (M4 14) → 0 ≤ M4 12 x300 → M4 12 x300 + hi2 = nct (M4 11) x300 N.toNat → Ed N (brd W H) (M4 11) x300 hi2 (M4 14) (M4 13 x300) → 2 * nct (M4 11) (-1) N.toNat + hi2 < 2 * nct (M' 11) (-1) N.toNat + hi →
            rh1 wh YX6_flood 1 142 [(0, 2, 10), (1, 2, x), (2, 0, b), (3, 0, nb), (5, 0, hi2), (7, 0, px), (8, 0, py), (9, 0, d)] [] M4 (fun r M' => r = 0 ∧ frx (fun a j => a = 11 ∨ a = 14 ∨ ((a = 12 ∨ a = 13) ∧ j = x300)) M M' ∧ (∃ st, Fl W N (hcol M x b) (nb = 8) (M 11) x300 s (M' 11) 0 st) ∧ M' 12 x300 = nct (M' 11) x300 N.toNat ∧ (M' 13 x300 = 0 ∨ M' 13 x300 = 1) ∧ (M' 13 x300 = 1 ↔ ∃ k, (0 ≤ k ∧ k < N) ∧ M' 11 k = x300 ∧ brd W H k)) := by
          intro u
          induction u using Nat.strongRecOn with
          | ind u ih2 =>
            intro d hi2 M4 hu d0 d1 g0 f4 F4 a40 a4 ed4 me
            have y1 : M4 x 1 = W := by rw [f4 x 1 (nx 1), hW]
            have y2 : M4 x 2 = H := by rw [f4 x 2 (nx 2), hH]
            have y3 : M4 10 4 = x300 := by rw [f4 10 4 n10, hc]
            have ycell : M4 (x + 1) = M (x + 1) := f4.cell nx1
            refine rh1.of (rX6_flood_142 hh _ _ _ _ _ _ _ _ hx ?_)
            rw [y1, y2, y3]
            refine ⟨fun c2 => ?_, fun c2 => ?_⟩
            · have hd8 : d < 8 := by
                rcases hnb.out with h | h <;> omega
              have tb3 := Hid.mk (tb01 d d0 hd8).2.2
              have tb := (tb01 d d0 hd8).1
              have tb2 := (tb01 d d0 hd8).2.1
              have od : rI (d + 1) := ⟨by omega, by omega⟩
              have od2 : 0 ≤ d ∧ d < 8 := ⟨d0, hd8⟩
              have om : (nb - (d + 1)).toNat < u := (by omega)
              have od3 : d + 1 ≤ nb := (by omega)
              have od4 : 0 ≤ d + 1 := (by omega)
              have hWv : -128 ≤ W * (py + rh_tb 1 d) ∧ W * (py + rh_tb 1 d) ≤ 128 * 97 := by
                have e1 : W * (py + rh_tb 1 d) = W * (py + rh_tb 1 d + 1) - W := by rw [Int.mul_add W _ 1]; omega
                have e2 : 0 ≤ W * (py + rh_tb 1 d + 1) := mul_nn (by omega) (by omega)
                have e3 : W * (py + rh_tb 1 d + 1) ≤ 128 * 97 := pr_le (by omega) hWb (by omega) (by omega)
                omega
              have hin : (0 ≤ px + rh_tb 0 d ∧ px + rh_tb 0 d < W ∧ 0 ≤ py + rh_tb 1 d ∧ py + rh_tb 1 d < H) → 0 ≤ W * (py + rh_tb 1 d) + (px + rh_tb 0 d) ∧ W * (py + rh_tb 1 d) + (px + rh_tb 0 d) < N := fun z => by
                have e1 := mul_lt z.1 z.2.1 z.2.2.1 z.2.2.2
                have e2 := mul_nn (a := W) (b := py + rh_tb 1 d) (by omega) z.2.2.1
                exact ⟨(by omega), (by omega)⟩
              have oin : ∀ z, (0 ≤ px + rh_tb 0 d ∧ px + rh_tb 0 d < W ∧ 0 ≤ py + rh_tb 1 d ∧ py + rh_tb 1 d < H) → z = W * (py + rh_tb 1 d) + (px + rh_tb 0 d) → 0 ≤ z ∧ z < 6144 := fun z h1 h2 => by have := hin h1; omega
              replace hin := Hid.mk hin
              refine ⟨od2, ⟨by omega, by omega⟩, od2, ⟨by omega, by omega⟩, fun at_ eat => ⟨⟨by omega, by omega⟩, fun z => oin _ z eat, fun z _ => oin _ z eat, fun z => ?_, fun z => ?_⟩⟩
              · have hz := hin.out z.1
                rw [← eat] at hz
                have zc : hcol M x b at_ := by unfold hcol; rw [← ycell]; exact z.2.2
                have zl := z.2.1
                have zb := z.1
                clear z
                have hxy := dm_x (W := W) (v := py + rh_tb 1 d) zb.1 zb.2.1
                rw [← eat] at hxy
                have un := nct_pos (f := M4 11) (i := at_) hz.1 zl N.toNat (by omega)
                have tw := nct_two (M4 11) (c := x300) (d := -1) hcn N.toNat
                refine ⟨⟨by omega, by omega⟩, ⟨by omega, by omega⟩, ⟨by omega, by omega⟩, od, ?_⟩
                have s11 : rh_set (rh_set M4 11 at_ x300) 14 hi2 at_ 11 = upz (M4 11) at_ x300 := by rw [rh_set_n (by decide), rh_set_f]
                have s14 : rh_set (rh_set M4 11 at_ x300) 14 hi2 at_ 14 = upz (M4 14) hi2 at_ := by rw [rh_set_f, rh_set_n (by decide)]
                have s12 : ∀ j, rh_set (rh_set M4 11 at_ x300) 14 hi2 at_ 12 j = M4 12 j := fun j => by rw [rh_set_a (by decide), rh_set_a (by decide)]
                have s13 : ∀ j, rh_set (rh_set M4 11 at_ x300) 14 hi2 at_ 13 j = M4 13 j := fun j => by rw [rh_set_a (by decide), rh_set_a (by decide)]
                have hac : M4 11 at_ ≠ x300 := by rw [zl]; exact fun q => hcn q.symm
                have up := nct_up hz.1 hac N.toNat (by omega)
                have dn := nct_dn hz.1 zl hcn N.toNat (by omega)
                refine ih2 _ om (d + 1) (hi2 + 1) _ rfl od4 od3 (by omega) ((f4.st (.inl rfl)).st (.inr (.inl rfl))) ?_ (by rw [s12]; exact a40) (by rw [s12, s11, up]; omega) (by rw [s11, s14, s13]; exact ed4.push g0) (by rw [s11, dn]; omega)
                rw [s11, s14]
                refine (F4.push hcn g0 hz ⟨?_, ?_, ?_⟩ zc zl).more (fun q qr ⟨e, e0, e1, e2, e3⟩ _ => ?_)
                · rw [hxy.1, ← epx]; exact ⟨(by omega), (by omega)⟩
                · rw [hxy.2, ← epy]; exact ⟨(by omega), (by omega)⟩
                · rcases hnb.out with h | h
                  · rcases tb3.out (by omega) with h2 | h2
                    · exact .inr (.inl (by rw [hxy.1, ← epx, h2]; omega))
                    · exact .inr (.inr (by rw [hxy.2, ← epy, h2]; omega))
                  · exact .inl h
                · by_cases he : e = d
                  · subst he
                    refine .inl (.inr ?_)
                    rw [dm q W, e2, e3, eat]
                  · exact .inl (.inl ⟨e, e0, (by omega), e2, e3⟩)
              · replace z := Hid.mk z
                refine ⟨od, ih2 _ om (d + 1) hi2 _ rfl od4 od3 g0 f4 (F4.more (fun q qr ⟨e, e0, e1, e2, e3⟩ qc => ?_)) a40 a4 ed4 me⟩
                by_cases he : e = d
                · subst he
                  have bq := dm_b hW1 qr.1 (by rw [hNN]; exact qr.2)
                  have hq : q = at_ := by rw [dm q W, e2, e3, eat]
                  refine .inr (fun ql => z.out ⟨?_, ?_, ?_⟩)
                  · rw [← e2, ← e3]; exact ⟨bq.1.1, bq.1.2, bq.2.1, bq.2.2⟩
                  · rw [← hq]; exact ql
                  · rw [← hq, ycell]; exact qc
                · exact .inl ⟨e, e0, (by omega), e2, e3⟩
            · refine ih _ (by omega) hi2 M4 rfl g0 f4 (F4.done hcn (fun j jr ja => ?_)) a40 a4 ed4
              obtain ⟨j1, j2, j3⟩ := ja
              rw [← epx] at j1
              rw [← epy] at j2
              rw [← epx, ← epy] at j3
              replace j3 := Hid.mk j3
              by_cases hz : j % W - px = 0 ∧ j / W - py = 0
              · refine .inl ?_
                rw [dm j W, show j % W = px by omega, show j / W = py by omega, dmp, ← epx, ← epy]
              · obtain ⟨e, e0, e1, e2, e3, e4⟩ := tb01x (a := j % W - px) (b := j / W - py) ⟨by omega, by omega⟩ ⟨by omega, by omega⟩ hz
                refine .inr ⟨e, e0, ?_, (by omega), (by omega)⟩
                rcases hnb.out with h | h
                · have : e < 4 := e4 (by
                    rcases j3.out with q | q | q
                    · exact absurd q (by omega)
                    · exact .inl (by omega)
                    · exact .inr (by omega))
                  omega
                · omega
        have s11 : rh_set M3 13 x300 e1 11 = M' 11 := by rw [rh_set_n (by decide), eM3, rh_set_n (by decide)]
        have s14 : rh_set M3 13 x300 e1 14 = M' 14 := by rw [rh_set_n (by decide), eM3, rh_set_n (by decide)]
        have s12 : rh_set M3 13 x300 e1 12 x300 = a1 := by rw [rh_set_a (by decide), eM3, rh_set_s]
        have s13 : rh_set M3 13 x300 e1 13 x300 = e1 := rh_set_s _ _ _ _
        refine key2 _ 0 (hi - 1) _ rfl (by omega) (by rcases hnb.out with h | h <;> omega) (by omega) ?_ ?_ (by rw [s12]; omega) (by rw [s12, s11]; omega) (by rw [s11, s14, s13]; exact ed2) (by rw [s11]; omega)
        · rw [eM3]; exact (f.st (.inr (.inr ⟨.inl rfl, rfl⟩))).st (.inr (.inr ⟨.inr rfl, rfl⟩))
        · rw [s11, s14]; exact P.more (fun q _ ⟨e, e0, e1, _⟩ _ => by omega)
      · exact ed.fin (by omega)
  have s11 : rh_set M302 13 x300 0 11 = upz (M 11) s x300 := by rw [rh_set_n (by decide), e302, rh_set_n (by decide), e301, rh_set_f, rh_set_n (by decide)]
  have s14 : rh_set M302 13 x300 0 14 0 = s := by rw [rh_set_a (by decide), e302, rh_set_a (by decide), e301, rh_set_a (by decide), rh_set_s]
  have s12 : rh_set M302 13 x300 0 12 x300 = 0 := by rw [rh_set_a (by decide), e302, rh_set_s]
  have s13 : rh_set M302 13 x300 0 13 x300 = 0 := rh_set_s _ _ _ _
  refine key _ 1 _ rfl (by omega) ?_ ?_ (by rw [s12]; omega) ?_ ?_
  · rw [e302, e301]
    exact (((frx.rf.st (.inr (.inl rfl))).st (.inl rfl)).st (.inr (.inr ⟨.inl rfl, rfl⟩))).st (.inr (.inr ⟨.inr rfl, rfl⟩))
  · rw [s11]; exact Fl.init hs hcs hl hn s14
  · rw [s12, s11, nct_up hs.1 (hn s hs) N.toNat (by omega), nct_0 N.toNat (fun j j0 j1 => hn j ⟨by omega, by omega⟩)]
  · rw [s11, s13]; exact Ed.init hn s14
end Parts
