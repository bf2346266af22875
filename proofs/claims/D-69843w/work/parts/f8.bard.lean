/-! ===== LAYER 2: bars: drawing, the operation ===== -/
section BarD
variable {wh wm : rhW}
/-- memory with some places of a cell at nought -/
noncomputable def zr (A : rhM) (c : Int) (Z : Int → Prop) : rhM := fun a i => rh_if (a = c ∧ Z i) 0 (A a i)
theorem zr_o {A : rhM} {c a i : Int} {Z : Int → Prop} (h : a ≠ c) : zr A c Z a i = A a i := rh_if_f (fun z => h z.1)
theorem zr_t {A : rhM} {c i : Int} {Z : Int → Prop} (h : Z i) : zr A c Z c i = 0 := rh_if_t ⟨rfl, h⟩
theorem zr_f {A : rhM} {c i : Int} {Z : Int → Prop} (h : ¬ Z i) : zr A c Z c i = A c i := rh_if_f (fun z => h z.2)
theorem zr_e {A : rhM} {c : Int} {Z Z' : Int → Prop} (h : ∀ i, Z i ↔ Z' i) : zr A c Z = zr A c Z' := by
  have : Z = Z' := funext (fun i => propext (h i))
  rw [this]
theorem zr_s {A : rhM} {c i : Int} {Z Z' : Int → Prop} (h : ∀ k, (Z k ∨ k = i) ↔ Z' k) : rh_set (zr A c Z) c i 0 = zr A c Z' := by
  funext a j
  by_cases ea : a = c
  · rw [ea]
    by_cases ej : j = i
    · rw [ej, rh_set_s, zr_t ((h i).mp (.inr rfl))]
    · rw [rh_set_j ej]
      by_cases z : Z j
      · rw [zr_t z, zr_t ((h j).mp (.inl z))]
      · rw [zr_f z, zr_f (fun y => ((h j).mpr y).elim z ej)]
  · rw [rh_set_a ea, zr_o ea, zr_o ea]
theorem zr_n {A : rhM} {c : Int} : zr A c (fun _ => False) = A := by
  funext a i
  exact rh_if_f (fun z => z.2)
theorem zr_x {A : rhM} {c : Int} {Z : Int → Prop} : frx (fun a i => a = c ∧ Z i) A (zr A c Z) := fun _ _ h => rh_if_f h
def Col (w lo v u i : Int) : Prop := ∃ t, (lo ≤ t ∧ t < v) ∧ i = w * t + u
def Rct (w a u lo hi i : Int) : Prop := ∃ s t, (a ≤ s ∧ s < u) ∧ (lo ≤ t ∧ t < hi) ∧ i = w * t + s
/-- the house's column -/
theorem h_col (hh : rh_hs wh) {A : rhM} {q w y h x5 n at0 r run u : Int} {Z : Int → Prop} (hb : rh_bl wh 0 q 0) (hw : A q 1 = w) (hr : ∀ t, y ≤ t → t < y + h → 0 ≤ w * t + u ∧ w * t + u < 6144) (hy : 0 ≤ y ∧ y + h ≤ 200) : ∀ (m : Nat) (v : Int), v + m = y + h → y ≤ v → eS wh YX1_bars 3 258 [(0, 2, 0), (3, 0, y), (4, 0, h), (5, 0, x5), (6, 0, n), (7, 2, q), (9, 0, at0), (10, 0, r), (14, 0, run), (15, 0, u), (16, 0, v)] [] (zr A (q + 1) (fun i => Z i ∨ Col w y v u i)) 258 [(0, 2, 0), (3, 0, y), (4, 0, h), (5, 0, x5), (6, 0, n), (7, 2, q), (9, 0, at0), (10, 0, r), (14, 0, run), (15, 0, u), (16, 0, y + h)] [] (zr A (q + 1) (fun i => Z i ∨ Col w y (y + h) u i)) := by
  intro m
  induction m with
  | zero =>
    intro v hv v0
    have e : v = y + h := by omega
    rw [e]
    exact eS.rf
  | succ m ih =>
    intro v hv v0
    have g := hr v v0 (by omega)
    refine eS.of (fun P HP => ?_)
    refine rh1.of (rX1_bars_258 hh _ _ _ _ _ _ _ _ _ _ _ hb ?_)
    have e1 : zr A (q + 1) (fun i => Z i ∨ Col w y v u i) q 1 = w := by rw [zr_o (by omega)]; exact hw
    have e2 : rh_set (zr A (q + 1) (fun i => Z i ∨ Col w y v u i)) (q + 1) (w * v + u) (rh_i2b 0) = zr A (q + 1) (fun i => Z i ∨ Col w y (v + 1) u i) := by
      rw [show rh_i2b 0 = 0 by decide +kernel]
      refine zr_s (fun k => ⟨fun z => ?_, fun z => ?_⟩)
      · rcases z with (z | ⟨t, z1, z2⟩) | z
        · exact .inl z
        · exact .inr ⟨t, by omega, z2⟩
        · exact .inr ⟨v, by omega, z⟩
      · rcases z with z | ⟨t, z1, z2⟩
        · exact .inl (.inl z)
        · by_cases et : t = v
          · rw [et] at z2; exact .inr z2
          · exact .inl (.inr ⟨t, by omega, z2⟩)
    rw [e1, e2]
    exact ⟨⟨by omega, by omega⟩, fun _ => ⟨g, ⟨by omega, by omega⟩, rh1.s (ih (v + 1) (by omega) (by omega)) HP⟩, fun z => by omega⟩
theorem h_rect (hh : rh_hs wh) {A : rhM} {q w y h x5 n at0 r run : Int} {Z : Int → Prop} (hb : rh_bl wh 0 q 0) (hw : A q 1 = w) (hr : ∀ s t, at0 ≤ s → s < at0 + run → y ≤ t → t < y + h → 0 ≤ w * t + s ∧ w * t + s < 6144) (hy : 0 ≤ y ∧ 0 < h ∧ y + h ≤ 200) (ha : 0 ≤ at0 ∧ at0 + run ≤ 200) (hev : r % 2 = 0) (r0 : 0 ≤ r) : ∀ (m : Nat) (u : Int), u + m = at0 + run → at0 ≤ u → eS wh YX1_bars 3 238 [(0, 2, 0), (3, 0, y), (4, 0, h), (5, 0, x5), (6, 0, n), (7, 2, q), (9, 0, at0), (10, 0, r), (14, 0, run), (15, 0, u)] [] (zr A (q + 1) (fun i => Z i ∨ Rct w at0 u y (y + h) i)) 238 [(0, 2, 0), (3, 0, y), (4, 0, h), (5, 0, x5), (6, 0, n), (7, 2, q), (9, 0, at0), (10, 0, r), (14, 0, run), (15, 0, at0 + run)] [] (zr A (q + 1) (fun i => Z i ∨ Rct w at0 (at0 + run) y (y + h) i)) := by
  intro m
  induction m with
  | zero =>
    intro u hu u0
    have e : u = at0 + run := by omega
    rw [e]
    exact eS.rf
  | succ m ih =>
    intro u hu u0
    refine eS.of (fun P HP => ?_)
    have E := h_col hh (A := A) (at0 := at0) (r := r) (run := run) (x5 := x5) (n := n) (u := u) (Z := fun i => Z i ∨ Rct w at0 u y (y + h) i) hb hw (fun t t0 t1 => hr u t u0 (by omega) t0 t1) ⟨by omega, by omega⟩ h.toNat y (by omega) (Int.le_refl _)
    rw [zr_e (A := A) (c := q + 1) (Z := fun i => (Z i ∨ Rct w at0 u y (y + h) i) ∨ Col w y y u i) (Z' := fun i => Z i ∨ Rct w at0 u y (y + h) i) (fun i => ⟨fun z => z.elim id (fun ⟨t, z1, _⟩ => absurd z1 (by omega)), fun z => .inl z⟩)] at E
    rw [zr_e (A := A) (c := q + 1) (Z := fun i => (Z i ∨ Rct w at0 u y (y + h) i) ∨ Col w y (y + h) u i) (Z' := fun i => Z i ∨ Rct w at0 (u + 1) y (y + h) i) (fun i => ⟨fun z => by
      rcases z with (z | ⟨s, t, z1, z2, z3⟩) | ⟨t, z1, z2⟩
      · exact .inl z
      · exact .inr ⟨s, t, by omega, z2, z3⟩
      · exact .inr ⟨u, t, by omega, z1, z2⟩, fun z => by
      rcases z with z | ⟨s, t, z1, z2, z3⟩
      · exact .inl (.inl z)
      · by_cases es : s = u
        · rw [es] at z3; exact .inr ⟨t, z2, z3⟩
        · exact .inl (.inr ⟨s, t, by omega, z2, z3⟩)⟩)] at E
    refine rh1.of (rX1_bars_238 hh _ _ _ _ _ _ _ _ _ _ hb ?_)
    refine ⟨⟨by omega, by omega⟩, fun _ => ⟨by omega, by omega⟩, fun _ => rh1.s E ?_, fun z => absurd ⟨by omega, hev⟩ z⟩
    refine rh1.of (rX1_bars_258 hh _ _ _ _ _ _ _ _ _ _ _ hb ?_)
    exact ⟨⟨by omega, by omega⟩, fun z => by omega, fun _ => ⟨⟨by omega, by omega⟩, rh1.s (ih (u + 1) (by omega) (by omega)) HP⟩⟩
/-- the model's box, row by row -/
def Rwj (p w y at0 run j k : Int) : Prop := ∃ t, (0 ≤ t ∧ t < j) ∧ k = 6144 * p + (y + t / run) * w + at0 + t % run
theorem Rwj_e {p w y at0 run h k : Int} (hr : 0 < run) (hh' : 0 < h) : Rwj p w y at0 run (run * h) k ↔ Rct w at0 (at0 + run) y (y + h) (k - 6144 * p) := by
  constructor
  · rintro ⟨t, t1, t2⟩
    have m0 := Int.emod_nonneg t (show run ≠ 0 by omega)
    have m1 := Int.emod_lt_of_pos t hr
    have d0 := Int.ediv_nonneg t1.1 (show 0 ≤ run by omega)
    have d1 : t / run < h := Int.ediv_lt_of_lt_mul hr (by rw [Int.mul_comm]; exact t1.2)
    exact ⟨at0 + t % run, y + t / run, by omega, by omega, by rw [t2, Int.mul_comm w]; omega⟩
  · rintro ⟨s, t, s1, t1, e⟩
    have a1 : (run * (t - y) + (s - at0)) / run = t - y := by rw [Int.add_comm, Int.add_mul_ediv_left _ _ (by omega), Int.ediv_eq_zero_of_lt (by omega) (by omega)]; omega
    have a2 : (run * (t - y) + (s - at0)) % run = s - at0 := by rw [Int.add_comm, Int.add_mul_emod_self_left]; exact Int.emod_eq_of_lt (by omega) (by omega)
    have l := mul_lt (a := run) (b := h) (x := s - at0) (y := t - y) (by omega) (by omega) (by omega) (by omega)
    have n := Int.mul_nonneg (show 0 ≤ run by omega) (show 0 ≤ t - y by omega)
    refine ⟨run * (t - y) + (s - at0), by omega, ?_⟩
    rw [a1, a2, show y + (t - y) = t by omega, Int.mul_comm t w]
    omega
theorem m_rect (hm : rh_ms wm) {B : rhM} {p w y h h0 x5 at0 r run : Int} {Z : Int → Prop} (hp : 0 ≤ p ∧ p < 8) (hw : B 4 p = w) (hwh : 0 ≤ w ∧ w * h0 ≤ 6144) (hy : 0 ≤ y ∧ 0 < h ∧ y + h ≤ h0 ∧ h0 ≤ 96) (ha : 0 ≤ at0 ∧ at0 + run ≤ w ∧ w ≤ 128) (hrun : 1 ≤ run ∧ run ≤ 12) (hev : r % 2 = 0) (r0 : 0 ≤ r) : ∀ (m : Nat) (j : Int), j + m = run * h → 0 ≤ j → eS wm YX32_bars 3 382 [(0, 2, 0), (1, 0, p), (3, 0, y), (4, 0, h), (5, 0, x5), (8, 0, at0), (9, 0, r), (10, 0, run), (11, 0, j)] [] (zr B 3 (fun k => Z k ∨ Rwj p w y at0 run j k)) 382 [(0, 2, 0), (1, 0, p), (3, 0, y), (4, 0, h), (5, 0, x5), (8, 0, at0), (9, 0, r), (10, 0, run), (11, 0, run * h)] [] (zr B 3 (fun k => Z k ∨ Rwj p w y at0 run (run * h) k)) := by
  have rb : 0 ≤ run * h ∧ run * h ≤ 12 * 96 := ⟨Int.mul_nonneg (by omega) (by omega), Int.mul_le_mul hrun.2 (by omega) (by omega) (by decide)⟩
  intro m
  induction m with
  | zero =>
    intro j hj j0
    have e : j = run * h := by omega
    rw [e]
    exact eS.rf
  | succ m ih =>
    intro j hj j0
    have m0 := Int.emod_nonneg j (show run ≠ 0 by omega)
    have m1 := Int.emod_lt_of_pos j (show 0 < run by omega)
    have d0 := Int.ediv_nonneg j0 (show 0 ≤ run by omega)
    have d1 : j / run < h := Int.ediv_lt_of_lt_mul (by omega) (by rw [Int.mul_comm]; omega)
    have l := mul_lt (a := w) (b := h0) (x := at0 + j % run) (y := y + j / run) (by omega) (by omega) (by omega) (by omega)
    have n := Int.mul_nonneg hwh.1 (show 0 ≤ y + j / run by omega)
    refine eS.of (fun P HP => ?_)
    refine rh1.of (rX32_bars_382 hm _ _ _ _ _ _ _ _ _ ?_)
    have e1 : zr B 3 (fun k => Z k ∨ Rwj p w y at0 run j k) 4 p = w := by rw [zr_o (by decide)]; exact hw
    have e2 : rh_set (zr B 3 (fun k => Z k ∨ Rwj p w y at0 run j k)) 3 (6144 * p + (y + j / run) * w + at0 + j % run) 0 = zr B 3 (fun k => Z k ∨ Rwj p w y at0 run (j + 1) k) := by
      refine zr_s (fun k => ⟨fun z => ?_, fun z => ?_⟩)
      · rcases z with (z | ⟨t, z1, z2⟩) | z
        · exact .inl z
        · exact .inr ⟨t, by omega, z2⟩
        · exact .inr ⟨j, by omega, z⟩
      · rcases z with z | ⟨t, z1, z2⟩
        · exact .inl (.inl z)
        · by_cases et : t = j
          · rw [et] at z2; exact .inr z2
          · exact .inl (.inr ⟨t, by omega, z2⟩)
    rw [e1, e2]
    refine ⟨⟨by omega, by omega⟩, fun _ => ⟨by omega, by omega⟩, fun _ => ⟨⟨by omega, by omega⟩, hp, ⟨by omega, by omega⟩, ?_, ⟨by omega, by omega⟩, rh1.s (ih (j + 1) (by omega) (by omega)) HP⟩, fun z => absurd ⟨by omega, hev⟩ z⟩
    rw [Int.mul_comm (y + j / run) w]
    omega
end BarD
