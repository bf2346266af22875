/-! ===== LAYER 2: what is asked of pages ===== -/
section PageOps
variable {wh wm : rhW}
theorem frm0 {Mm : rhM} {v : Int} : frm (· = 0) Mm (rh_set Mm 0 0 v) := frm.st (F := (· = 0)) frm.rf rfl
theorem set0_4 {Mm : rhM} {j : Int} : rh_set Mm 0 0 0 4 j = Mm 4 j := rh_set_a (by decide)
theorem Rp.frm {Mh Mm Mh' Mm' : rhM} {x p : Int} (R : Rp Mh Mm x p) (h1 : Mh' x = Mh x) (h2 : Mh' (x + 1) = Mh (x + 1)) (h3 : Mm' 3 = Mm 3) (h4 : Mm' 4 = Mm 4) (h5 : Mm' 5 = Mm 5) : Rp Mh' Mm' x p := by
  unfold Rp at R ⊢
  rw [h1, h2, h3, h4, h5]
  exact R
theorem Rp.set0 {Mh Mm : rhM} {x p v : Int} (R : Rp Mh Mm x p) : Rp Mh (rh_set Mm 0 0 v) x p := R.frm rfl rfl (frm0 3 (by decide)) (frm0 4 (by decide)) (frm0 5 (by decide))
theorem op_level (hh : rh_hs wh) (hm : rh_ms wm) {Mh Mm : rhM} (R : Rpg Mh Mm) (x1 : Int) : rC2 wh YX1_level 3 [(2, 0), (0, x1)] Mh wm YX32_level 3 [(2, 0), (0, x1)] Mm (fun r M' r2 M2' => r = r2 ∧ frm (· = 17) Mh M' ∧ frm (fun a => a = 0 ∨ a = 8) Mm M2') := by
  refine rC2.of (by decide) (LE0 rfl) (by decide) (LE0 rfl) ?_
  refine rh2.l (rX1_level_0 hh _ _ ⟨by omega, fun c => ⟨by omega, ?_⟩, fun c => ?_⟩)
  · obtain ⟨R1, b⟩ := R x1 c.1.1 (by omega)
    have hp : 0 ≤ x1 ∧ x1 < 8 := by omega
    refine rh2.r (rX32_level_0 hm _ _ ⟨by omega, fun d => ?_, fun d => absurd (by rw [set0_4]; exact ⟨c.1, b.mp c.2⟩) d⟩)
    obtain ⟨r, M', r2, M2', E1, E2, q1, q2, q3⟩ := c_level hh hm Mh (rh_set Mm 0 0 0) (251 + 39 * x1) x1 (hs_pgs hh hp.1 hp.2) hp ⟨by omega, by omega⟩ R1.set0
    refine rh2.sl (vX1_level_18 hh E1 (LE0 rfl)) (rh2.sr (vX32_level_15 hm E2 (LE0 rfl)) ?_)
    refine rh2.l (rX1_level_21 hh _ _ (rh1.of (rX32_level_18 hm _ _ ⟨q1, q2, ?_⟩)))
    exact (frm0.w (fun a h => .inl h)).tr (q3.w (fun a h => .inr h))
  · refine rh1.of (rX32_level_0 hm _ _ ⟨by omega, fun d => ?_, fun d => ⟨rfl, frm.rf, frm0.w (fun a h => .inl h)⟩⟩)
    rw [set0_4] at d
    exact absurd ⟨d.1, (R x1 d.1.1 (by omega)).2.mpr d.2⟩ c
/-- blacks -/
theorem c_blacks (hh : rh_hs wh) (hm : rh_ms wm) (Mh Mm : rhM) (x p : Int) (hb : rh_bl wh 5 x 0) (hp : 0 ≤ p ∧ p < 8) (R : Rp Mh Mm x p) :
    rC2 wh YX5_blacks 1 [(2, x)] Mh wm YX32_blacks 0 [(2, 0), (0, p)] Mm (fun r M' r2 M2' => r = r2 ∧ M' = Mh ∧ M2' = Mm ∧ 0 ≤ r ∧ r ≤ Mm 4 p * Mm 5 p) := by
  obtain ⟨a1, a2, a3, a4, a5, a6, a7, a8, a9, a10⟩ := R
  refine rC2.of (by decide) (LE0 rfl) (by decide) (LE0 rfl) ?_
  refine rh2.l (rX5_blacks_0 hh _ _ hb (rh2.r (rX32_blacks_0 hm _ _ ?_)))
  have key : ∀ (v : Nat) (k n : Int), (Mm 4 p * Mm 5 p - k).toNat = v → 0 ≤ k → k ≤ Mm 4 p * Mm 5 p → 0 ≤ n → n ≤ k →
      rh2 wh YX5_blacks 1 4 [(0, 2, x), (1, 0, n), (2, 0, k)] [] Mh wm YX32_blacks 0 4 [(0, 2, 0), (1, 0, p), (2, 0, n), (3, 0, k)] [] Mm (fun r M' r2 M2' => r = r2 ∧ M' = Mh ∧ M2' = Mm ∧ 0 ≤ r ∧ r ≤ Mm 4 p * Mm 5 p) := by
    intro v
    induction v using Nat.strongRecOn with
    | ind v ih =>
      intro k n hv k0 k1 n0 n1
      refine rh2.l (rX5_blacks_4 hh _ _ _ _ hb ?_)
      rw [a1, a2]
      refine ⟨⟨by omega, by omega⟩, fun c => ⟨⟨by omega, by omega⟩, fun y ey => ?_⟩, fun c => ?_⟩
      · rw [(a10 k k0 (by omega)).1] at ey
        have hy : n ≤ y ∧ y ≤ n + 1 := by
          by_cases z : Mm 3 (6144 * p + k) < 128
          · rw [rh_if_t z] at ey; omega
          · rw [rh_if_f z] at ey; omega
        refine ⟨⟨by omega, by omega⟩, ⟨by omega, by omega⟩, ?_⟩
        refine rh2.r (rX32_blacks_4 hm _ _ _ _ ⟨hp, hp, ⟨by omega, by omega⟩, fun d => ⟨⟨by omega, by omega⟩, fun y2 ey2 => ?_⟩, fun d => absurd c d⟩)
        rw [← ey] at ey2
        subst ey2
        exact ⟨⟨by omega, by omega⟩, ⟨by omega, by omega⟩, ih _ (by omega) (k + 1) _ rfl (by omega) (by omega) (by omega) (by omega)⟩
      · exact rh1.of (rX32_blacks_4 hm _ _ _ _ ⟨hp, hp, ⟨by omega, by omega⟩, fun d => absurd d c, fun d => ⟨rfl, rfl, rfl, by omega, by omega⟩⟩)
  exact key _ 0 0 rfl (by omega) a7 (by omega) (by omega)
/-- page: what else it tells -/
def Rp2 (Mh Mm : rhM) : Prop := ∀ p : Int, 0 ≤ p → p < 8 → (Mh (251 + 39 * p + 9) 0 ≠ 0 ↔ Mm 23 p ≠ 0) ∧ Mh (251 + 39 * p) 16 = Mm 157 p
theorem op_page (hh : rh_hs wh) (hm : rh_ms wm) {Mh Mm : rhM} (R : Rpg Mh Mm) (R2 : Rp2 Mh Mm) (x1 x2 : Int) : rC2 wh YX1_page 3 [(2, 0), (0, x1), (0, x2)] Mh wm YX32_page 3 [(2, 0), (0, x1), (0, x2)] Mm (fun r M' r2 M2' => r = r2 ∧ M' = Mh ∧ M2' = rh_set Mm 0 0 0) := by
  refine rC2.of (by decide) (LE0 rfl) (by decide) (LE0 rfl) ?_
  have e5 : rh_set Mm 0 0 0 5 x1 = Mm 5 x1 := rh_set_a (by decide)
  have e23 : rh_set Mm 0 0 0 23 x1 = Mm 23 x1 := rh_set_a (by decide)
  have e157 : rh_set Mm 0 0 0 157 x1 = Mm 157 x1 := rh_set_a (by decide)
  refine rh2.l (rX1_page_0 hh _ _ _ ⟨by omega, fun c => ?_, fun c => ?_⟩)
  · refine rh1.of (rX32_page_0 hm _ _ _ ⟨by omega, fun d => ⟨rfl, rfl, rfl⟩, fun d => ?_⟩)
    rw [set0_4] at d
    have := (R x1 (by omega) (by omega)).2
    omega
  · have hp : 0 ≤ x1 ∧ x1 < 8 := by omega
    obtain ⟨R1, b⟩ := R x1 hp.1 hp.2
    obtain ⟨b1, b2⟩ := R2 x1 hp.1 hp.2
    have R1' := R1
    obtain ⟨a1, a2, a3, a4, a5, a6, a7, a8, a9, a10⟩ := R1
    have hn : ¬ ¬ ((0 ≤ x1 ∧ x1 ≤ 7) ∧ 0 < rh_set Mm 0 0 0 4 x1) := by rw [set0_4]; omega
    have step : ∀ {A : Nat → rhL → List rhA → rhM → Prop} {B : Int → rhM → Prop}, _ → rhLf wm YX32_page 3 0 [(0, 2, 0), (1, 0, x1), (2, 0, x2)] [] Mm A B := fun {A B} h => rX32_page_0 hm (A := A) (B := B) x1 x2 Mm ⟨by omega, fun d => absurd d hn, fun _ => h⟩
    refine ⟨hp, fun c0 => ?_, fun c0 => ⟨fun c1 => ?_, fun c1 => ⟨fun c2 => ?_, fun c2 => ⟨fun c3 => ?_, fun c3 => ⟨fun c4 => ?_, fun c4 => ?_⟩⟩⟩⟩⟩
    · exact rh1.of (step ⟨fun _ => ⟨hp, by rw [set0_4, a1], rfl, rfl⟩, fun d => absurd c0 d⟩)
    · exact rh1.of (step ⟨fun d => absurd d c0, fun _ => ⟨fun _ => ⟨hp, by rw [e5, a2], rfl, rfl⟩, fun d => absurd c1 d⟩⟩)
    · refine rh2.r (step ⟨fun d => absurd d c0, fun _ => ⟨fun d => absurd d c1, fun _ => ⟨fun _ => ?_, fun d => absurd c2 d⟩⟩⟩)
      obtain ⟨r, M', r2, M2', E1, E2, q1, q2, q3, q4⟩ := c_blacks hh hm Mh (rh_set Mm 0 0 0) (251 + 39 * x1) x1 (hs_pgs hh hp.1 hp.2) hp R1'.set0
      refine rh2.sl (vX1_page_63 (hs_pg hh hp.1 hp.2) E1 (LE0 rfl)) (rh2.sr (vX32_page_68 hm E2 (LE0 rfl)) ?_)
      exact rh2.l (rX1_page_66 hh _ _ (rh1.of (rX32_page_71 hm _ _ ⟨q1, q2, q3⟩)))
    · refine rh1.of (step ⟨fun d => absurd d c0, fun _ => ⟨fun d => absurd d c1, fun _ => ⟨fun d => absurd d c2, fun _ => ⟨fun _ => ⟨hp, ?_, rfl, rfl⟩, fun d => absurd c3 d⟩⟩⟩⟩)
      rw [e23]
      by_cases z : Mm 23 x1 ≠ 0
      · rw [rh_if_t z, rh_if_t (b1.mpr z)]
      · rw [rh_if_f z, rh_if_f (fun y => z (b1.mp y))]
    · exact rh1.of (step ⟨fun d => absurd d c0, fun _ => ⟨fun d => absurd d c1, fun _ => ⟨fun d => absurd d c2, fun _ => ⟨fun d => absurd d c3, fun _ => ⟨fun _ => ⟨hp, by rw [e157, b2], rfl, rfl⟩, fun d => absurd c4 d⟩⟩⟩⟩⟩)
    · exact rh1.of (step ⟨fun d => absurd d c0, fun _ => ⟨fun d => absurd d c1, fun _ => ⟨fun d => absurd d c2, fun _ => ⟨fun d => absurd d c3, fun _ => ⟨fun d => absurd d c4, fun _ => ⟨rfl, rfl, rfl⟩⟩⟩⟩⟩⟩)
/-- a box in a page -/
abbrev inBox (a b x y u v : Int) : Prop := 0 ≤ x ∧ 0 ≤ y ∧ 0 < u ∧ 0 < v ∧ x + u ≤ a ∧ y + v ≤ b
theorem c_boxH (hh : rh_hs wh) {q x y u v : Int} (hb : rh_bl wh 5 q 0) (M : rhM) (ha : 0 ≤ M q 1 ∧ M q 1 ≤ 128) (hb2 : 0 ≤ M q 2 ∧ M q 2 ≤ 96) : eC wh YX5_hasBox 1 [(2, q), (0, x), (0, y), (0, u), (0, v)] M (rh_if (inBox (M q 1) (M q 2) x y u v) 1 0) M := by
  refine eC.of1 (rC1.of (by decide) (LE0 rfl) (rh1.of (rX5_hasBox_0 hh _ _ _ _ _ _ hb ⟨fun _ _ _ => ⟨by omega, by omega⟩, fun _ _ _ _ => ⟨by omega, by omega⟩, ?_, rfl⟩)))
  by_cases z : inBox (M q 1) (M q 2) x y u v
  · rw [rh_if_t z, rh_if_t (by omega)]
  · rw [rh_if_f z, rh_if_f (by unfold inBox at z; omega)]
theorem c_boxM (hm : rh_ms wm) {p x y u v : Int} (hp : 0 ≤ p ∧ p < 8) (M : rhM) (hu : rI x ∧ rI y ∧ rI u ∧ rI v) : eC wm YX32_isBox 0 [(2, 0), (0, p), (0, x), (0, y), (0, u), (0, v)] M (rh_if (inBox (M 4 p) (M 5 p) x y u v) 1 0) M := by
  refine eC.of1 (rC1.of (by decide) (LE0 rfl) (rh1.of (rX32_isBox_0 hm _ _ _ _ _ _ ⟨fun _ _ _ _ => hp, fun _ _ _ _ => ⟨by omega, by omega⟩, fun _ _ _ _ _ => hp, fun _ _ _ _ _ => ⟨by omega, by omega⟩, rfl, rfl⟩)))
end PageOps
