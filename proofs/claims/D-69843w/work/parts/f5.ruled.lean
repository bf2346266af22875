/-! ===== LAYER 2: ruled, table ===== -/
section RuledOp
variable {wh wm : rhW}
theorem Rlw.fx {A B A' B' : rhM} {W FN CF CT : Int} {F G : Int → Int → Prop} (R : Rlw A B W FN CF CT) (f : frx F A A') (g : frx G B B') (h1 : ¬ F 206 W) (h2 : ∀ r, 0 ≤ r → r < 64 → ¬ F 207 (128 * W + r) ∧ ¬ F 208 (128 * W + r)) (h3 : ¬ G 0 FN) (h4 : ∀ r, 0 ≤ r → r < 64 → ¬ G CF r ∧ ¬ G CT r) : Rlw A' B' W FN CF CT := by
  unfold Rlw
  rw [f 206 W h1, g 0 FN h3]
  refine ⟨R.1, R.2.1, fun r r0 r1 => ?_⟩
  have rb := R.2.1
  rw [f 207 _ (h2 r r0 (by omega)).1, f 208 _ (h2 r r0 (by omega)).2, g CF r (h4 r r0 (by omega)).1, g CT r (h4 r r0 (by omega)).2]
  exact R.2.2 r r0 r1
theorem Frs.cg {A : rhM} {n : Int} {f g : Int → Int} (F : Frs A n f) (h : ∀ c, 0 ≤ c → c < n → f c = g c) : Frs A n g := by
  intro c c0 c1
  obtain ⟨c2, c3, c4, c5, c6⟩ := F c c0 c1
  rw [← h c c0 c1, ← h (A 209 c) (by omega) (by omega), ← h (f c) (by omega) (by omega)]
  exact ⟨c2, c3, c4, c5, c6⟩
theorem Frs.fx {A A' : rhM} {n : Int} {f : Int → Int} {F : Int → Int → Prop} (R : Frs A n f) (g : frx F A A') (h : ∀ j, ¬ F 209 j) : Frs A' n f := by
  intro c c0 c1
  rw [g 209 c (h c)]
  exact R c c0 c1
/-- the ruled page's memory -/
def Rrd (A B : rhM) : Prop := Rul A B ∧ (2 ≤ B 0 218 → 2 ≤ B 0 219 → Frs A ((B 0 219 - 1) * (B 0 218 - 1)) (B 173))
theorem Rrd.n0 {A B : rhM} (R : Rrd A B) : Rrd A (rh_set B 0 0 0) := by
  have f : frx (fun c j => c = 0 ∧ j = 0) B (rh_set B 0 0 0) := frx.rf.st ⟨rfl, rfl⟩
  have e1 : rh_set B 0 0 0 0 218 = B 0 218 := f 0 218 (by omega)
  have e2 : rh_set B 0 0 0 0 219 = B 0 219 := f 0 219 (by omega)
  have e3 : rh_set B 0 0 0 173 = B 173 := funext (fun j => f 173 j (by omega))
  refine ⟨⟨R.1.1.fx (F := fun _ _ => False) frx.rf f (fun z => z) (fun _ _ _ => ⟨fun z => z, fun z => z⟩) (by omega) (fun r _ _ => ⟨by omega, by omega⟩), R.1.2.fx (F := fun _ _ => False) frx.rf f (fun z => z) (fun _ _ _ => ⟨fun z => z, fun z => z⟩) (by omega) (fun r _ _ => ⟨by omega, by omega⟩)⟩, ?_⟩
  rw [e1, e2, e3]
  exact R.2
def Frd (c _j : Int) : Prop := 206 ≤ c ∧ c ≤ 209
def Grd (c j : Int) : Prop := (169 ≤ c ∧ c ≤ 173) ∨ (c = 0 ∧ (j = 0 ∨ j = 218 ∨ j = 219))
theorem h_ini (hh : rh_hs wh) {q w n : Int} (hb : rh_bl wh 0 q 0) (hn : n ≤ 6144) {A : rhM} : ∀ (u : Nat) (k : Int) (X : rhM), k + u = n → 0 ≤ k → (∀ c, 0 ≤ c → c < k → X 209 c = c) → frx (fun c _ => c = 209) A X → ∃ X', eS wh YX24_find 5 30 [(0, 2, 205), (1, 2, q), (3, 0, w), (4, 0, n), (5, 0, k)] [] X 30 [(0, 2, 205), (1, 2, q), (3, 0, w), (4, 0, n), (5, 0, n)] [] X' ∧ (∀ c, 0 ≤ c → c < n → X' 209 c = c) ∧ frx (fun c _ => c = 209) A X' := by
  intro u
  induction u with
  | zero =>
    intro k X hk k0 h f
    have e : k = n := by omega
    rw [e] at h ⊢
    exact ⟨X, eS.rf, h, f⟩
  | succ u ih =>
    intro k X hk k0 h f
    obtain ⟨X', E, r⟩ := ih (k + 1) (rh_set X 209 k k) (by omega) (by omega) (fun c c0 c1 => by
      by_cases e : c = k
      · rw [e, rh_set_s]
      · rw [rh_set_j e]; exact h c c0 (by omega)) (f.st rfl)
    refine ⟨X', eS.of (fun P HP => ?_), r⟩
    refine rh1.of (rX24_find_30 hh _ _ _ _ _ hb ?_)
    exact ⟨fun _ => ⟨⟨by omega, by omega⟩, ⟨by omega, by omega⟩, rh1.s E HP⟩, fun z => by omega⟩
theorem m_ini (hm : rh_ms wm) {p w h n : Int} (hn : w * h = n) (hn2 : n ≤ 6144) {B : rhM} : ∀ (u : Nat) (k : Int) (X : rhM), k + u = n → 0 ≤ k → (∀ c, 0 ≤ c → c < k → X 173 c = c) → frx (fun c _ => c = 173) B X → ∃ X', eS wm YX32_ruled 4 238 [(0, 2, 0), (1, 0, p), (4, 0, w), (5, 0, h), (6, 0, k)] [] X 238 [(0, 2, 0), (1, 0, p), (4, 0, w), (5, 0, h), (6, 0, n)] [] X' ∧ (∀ c, 0 ≤ c → c < n → X' 173 c = c) ∧ frx (fun c _ => c = 173) B X' := by
  intro u
  induction u with
  | zero =>
    intro k X hk k0 hx f
    have e : k = n := by omega
    rw [e] at hx ⊢
    exact ⟨X, eS.rf, hx, f⟩
  | succ u ih =>
    intro k X hk k0 hx f
    obtain ⟨X', E, r⟩ := ih (k + 1) (rh_set X 173 k k) (by omega) (by omega) (fun c c0 c1 => by
      by_cases e : c = k
      · rw [e, rh_set_s]
      · rw [rh_set_j e]; exact hx c c0 (by omega)) (f.st rfl)
    refine ⟨X', eS.of (fun P HP => ?_), r⟩
    refine rh1.of (rX32_ruled_238 hm _ _ _ _ _ ?_)
    rw [hn]
    exact ⟨⟨by omega, by omega⟩, fun _ => ⟨⟨by omega, by omega⟩, ⟨by omega, by omega⟩, rh1.s E HP⟩, fun z => by omega⟩
theorem h_many (hh : rh_hs wh) {A : rhM} {n : Int} {f : Int → Int} (F : Frs A n f) (hn : n ≤ 6144) : ∀ (u v : Nat), (v : Int) + u = n → ∀ P : Int → rhM → Prop, P (cnk (fun c => f c = c) 0 n.toNat) A → rh1 wh YX24_find 5 182 [(0, 2, 205), (4, 0, n), (5, 0, cnk (fun c => f c = c) 0 v), (6, 0, (v : Int))] [] A P := by
  intro u
  induction u with
  | zero =>
    intro v hv P HP
    have e : v = n.toNat := by omega
    refine rh1.of (rX24_find_182 hh _ _ _ _ ?_)
    refine ⟨fun z => by omega, fun _ => ?_⟩
    rw [e]
    exact HP
  | succ u ih =>
    intro v hv P HP
    have b := cnk_b (Q := fun c => f c = c) (s := 0) v
    have i := if01 (f (v : Int) = v)
    refine rh1.of (rX24_find_182 hh _ _ _ _ ?_)
    refine ⟨fun _ => rh1.s (vX24_find_194 hh (c_root hh F hn ⟨by omega, by omega⟩) (LE0 rfl)) ?_, fun z => by omega⟩
    refine rh1.of (rX24_find_197 hh _ _ _ _ _ ?_)
    (intro zq hzq; replace hzq := hzq.symm; subst hzq)
    refine ⟨⟨by omega, by omega⟩, ⟨by omega, by omega⟩, ?_⟩
    have e : cnk (fun c => f c = c) 0 v + rh_if (f (v : Int) = v) 1 0 = cnk (fun c => f c = c) 0 (v + 1) := by
      show _ = cnk (fun c => f c = c) 0 v + rh_if (f (0 + (v : Int)) = 0 + (v : Int)) 1 0
      rw [show (0 : Int) + (v : Int) = v by omega]
    rw [e, show (v : Int) + 1 = ((v + 1 : Nat) : Int) by omega]
    exact ih (v + 1) (by omega) P HP
theorem m_many (hm : rh_ms wm) {B : rhM} {w h n : Int} {f : Int → Int} (hwh : w * h = n) (ml : Mlb B n f) (hn : n ≤ 6144) : ∀ (u v : Nat), (v : Int) + u = n → ∀ P : Int → rhM → Prop, P (cnk (fun c => f c = c) 0 n.toNat) B → rh1 wm YX32_ruled 4 303 [(0, 2, 0), (4, 0, w), (5, 0, h), (6, 0, cnk (fun c => f c = c) 0 v), (7, 0, (v : Int))] [] B P := by
  intro u
  induction u with
  | zero =>
    intro v hv P HP
    have e : v = n.toNat := by omega
    refine rh1.of (rX32_ruled_303 hm _ _ _ _ _ ?_)
    rw [hwh]
    refine ⟨⟨by omega, by omega⟩, fun z => by omega, fun _ => ?_⟩
    rw [e]
    exact HP
  | succ u ih =>
    intro v hv P HP
    have b := cnk_b (Q := fun c => f c = c) (s := 0) v
    have i := if01 (f (v : Int) = v)
    refine rh1.of (rX32_ruled_303 hm _ _ _ _ _ ?_)
    rw [hwh, ml v (by omega) (by omega)]
    refine ⟨⟨by omega, by omega⟩, fun _ => ⟨⟨by omega, by omega⟩, ?_⟩, fun z => by omega⟩
    (intro zq hzq; replace hzq := hzq.symm; subst hzq)
    refine ⟨⟨by omega, by omega⟩, ⟨by omega, by omega⟩, ?_⟩
    have e : cnk (fun c => f c = c) 0 v + rh_if (f (v : Int) = v) 1 0 = cnk (fun c => f c = c) 0 (v + 1) := by
      show _ = cnk (fun c => f c = c) 0 v + rh_if (f (0 + (v : Int)) = 0 + (v : Int)) 1 0
      rw [show (0 : Int) + (v : Int) = v by omega]
    rw [e, show (v : Int) + 1 = ((v + 1 : Nat) : Int) by omega]
    exact ih (v + 1) (by omega) P HP
/-- cells of a ruled page, both sides, from where the rules are known -/
theorem t_cells (hh : rh_hs wh) (hm : rh_ms wm) {A B : rhM} (R : Rpg A B) {p : Int} (hp : 0 ≤ p ∧ p < 8) (U : Rul A B) : ∃ v A' B', (∀ P : Int → rhM → Prop, P v A' → rh1 wh YX24_find 5 14 [(0, 2, 205), (1, 2, 251 + 39 * p)] [] A P) ∧ (∀ (x2 on : Int) (P : Int → rhM → Prop), P v B' → rh1 wm YX32_ruled 4 132 [(0, 2, 0), (1, 0, p), (2, 0, x2), (3, 0, on), (4, 0, B 4 p)] [] B P) ∧ Rrd A' B' ∧ frx (fun c _ => c = 209) A A' ∧ frx (fun c _ => c = 173) B B' := by
  have hb := hs_pg hh hp.1 hp.2
  obtain ⟨⟨u1, u2, u3⟩, v1, v2, v3⟩ := id U
  obtain ⟨w, hw⟩ : ∃ w, w = rh_if (0 < B 0 219 - 1) (B 0 219 - 1) 0 := ⟨_, rfl⟩
  obtain ⟨h, hh'⟩ : ∃ h, h = rh_if (0 < B 0 218 - 1) (B 0 218 - 1) 0 := ⟨_, rfl⟩
  have wb : (w = 0 ∧ B 0 219 ≤ 1) ∨ (1 ≤ w ∧ B 0 219 = w + 1) := by
    rw [hw]
    by_cases q : 0 < B 0 219 - 1
    · rw [rh_if_t q]; omega
    · rw [rh_if_f q]; omega
  have hb' : (h = 0 ∧ B 0 218 ≤ 1) ∨ (1 ≤ h ∧ B 0 218 = h + 1) := by
    rw [hh']
    by_cases q : 0 < B 0 218 - 1
    · rw [rh_if_t q]; omega
    · rw [rh_if_f q]; omega
  obtain ⟨n, hn⟩ : ∃ n, w * h = n := ⟨_, rfl⟩
  have nb : 0 ≤ n ∧ n ≤ 6144 := by
    rw [← hn]
    refine ⟨Int.mul_nonneg (by omega) (by omega), ?_⟩
    have := Int.mul_le_mul (show w ≤ 63 by omega) (show h ≤ 63 by omega) (show 0 ≤ h by omega) (by decide : (0 : Int) ≤ 63)
    omega
  have SH : ∀ P : Int → rhM → Prop, rh1 wh YX24_find 5 30 [(0, 2, 205), (1, 2, 251 + 39 * p), (3, 0, w), (4, 0, n), (5, 0, 0)] [] A P → rh1 wh YX24_find 5 14 [(0, 2, 205), (1, 2, 251 + 39 * p)] [] A P := fun P HP => by
    refine rh1.of (rX24_find_14 hh _ _ hb ?_)
    rw [u1, v1, ← hw, ← hh']
    refine ⟨⟨by omega, by omega⟩, ?_⟩
    (intro zq hzq; replace hzq := hzq.symm; subst hzq)
    refine ⟨⟨by omega, by omega⟩, ?_⟩
    rw [hn]
    (intro zq hzq; replace hzq := hzq.symm; subst hzq)
    exact ⟨⟨by omega, by omega⟩, HP⟩
  have SM : ∀ (x2 on : Int) (P : Int → rhM → Prop), rh1 wm YX32_ruled 4 238 [(0, 2, 0), (1, 0, p), (4, 0, w), (5, 0, h), (6, 0, 0)] [] B P → rh1 wm YX32_ruled 4 132 [(0, 2, 0), (1, 0, p), (2, 0, x2), (3, 0, on), (4, 0, B 4 p)] [] B P := fun x2 on P HP => by
    refine rh1.of (rX32_ruled_132 hm _ _ _ _ _ ?_)
    refine ⟨⟨by omega, by omega⟩, fun z => by omega, fun _ => ⟨⟨by omega, by omega⟩, ?_⟩⟩
    rw [← hw]
    (intro zq hzq; replace hzq := hzq.symm; subst hzq)
    refine ⟨⟨by omega, by omega⟩, ?_⟩
    rw [← hh']
    (intro zq hzq; replace hzq := hzq.symm; subst hzq)
    exact HP
  obtain ⟨A3, EA, a1, fA3⟩ := h_ini hh (w := w) (n := n) (A := A) hb nb.2 n.toNat 0 A (by omega) (by decide) (fun c c0 c1 => by omega) frx.rf
  obtain ⟨B3, EB, b1, gB3⟩ := m_ini hm (p := p) (w := w) (h := h) hn nb.2 (B := B) n.toNat 0 B (by omega) (by decide) (fun c c0 c1 => by omega) frx.rf
  have L0 : Lbl (Edg B p w h) n id := fun c c0 c1 => ⟨⟨c0, Int.le_refl _⟩, fun g _ => rfl⟩
  have F0 : Frs A3 n id := fun c c0 c1 => by
    rw [a1 c c0 c1]
    exact ⟨⟨c0, Int.le_refl _⟩, rfl, ⟨fun _ => rfl, fun _ => rfl⟩, rfl, c0, Int.le_refl _⟩
  have M0 : Mlb B3 n id := b1
  have HS : ∃ A4 B4 f, eS wh YX24_find 5 55 [(0, 2, 205), (1, 2, 251 + 39 * p), (3, 0, w), (4, 0, n), (5, 0, 0)] [] A3 55 [(0, 2, 205), (1, 2, 251 + 39 * p), (3, 0, w), (4, 0, n), (5, 0, n)] [] A4 ∧ eS wm YX32_ruled 4 266 [(0, 2, 0), (1, 0, p), (4, 0, w), (5, 0, h), (6, 0, 0)] [] B3 266 [(0, 2, 0), (1, 0, p), (4, 0, w), (5, 0, h), (6, 0, n)] [] B4 ∧ Frs A4 n f ∧ Mlb B4 n f ∧ frx (fun c _ => c = 209) A A4 ∧ frx (fun c _ => c = 173) B B4 := by
    by_cases z : 1 ≤ w ∧ 1 ≤ h
    · have hw1 : B 0 219 = w + 1 := by omega
      have hh1 : B 0 218 = h + 1 := by omega
      obtain ⟨A4, f, E1, L1, F1, D1, x1⟩ := h_cells hh R hp U hw1 hh1 z hn nb.2 n.toNat 0 A3 id (by omega) (by decide) L0 F0 (fun a b e l => by have := e.r; omega) fA3
      obtain ⟨B4, f', E2, L2, F2, D2, x2⟩ := m_cells hm R hp U hw1 hh1 z hn nb.2 n.toNat 0 B3 id (by omega) (by decide) L0 M0 (fun a b e l => by have := e.r; omega) gB3
      have uq := fun c c0 c1 => L1.uq L2 D1 D2 c c0 c1
      exact ⟨A4, B4, f, E1, E2, F1, fun c c0 c1 => by rw [F2 c c0 c1]; exact (uq c c0 c1).symm, x1, x2⟩
    · have n0 : n = 0 := by
        rw [← hn]
        rcases (by omega : w = 0 ∨ h = 0) with e | e
        · rw [e, Int.zero_mul]
        · rw [e, Int.mul_zero]
      refine ⟨A3, B3, id, ?_, ?_, F0, M0, fA3, gB3⟩
      · rw [n0]; exact eS.rf
      · rw [n0]; exact eS.rf
  obtain ⟨A4, B4, f, E1, E2, F4, M4, fA4, gB4⟩ := HS
  refine ⟨cnk (fun c => f c = c) 0 n.toNat, A4, B4, fun P HP => SH P (rh1.s EA ?_), fun x2 on P HP => SM x2 on P (rh1.s EB ?_), ?_, fA4, gB4⟩
  · refine rh1.of (rX24_find_30 hh _ _ _ _ _ hb ?_)
    refine ⟨fun z => by omega, fun _ => rh1.s E1 ?_⟩
    refine rh1.of (rX24_find_55 hh _ _ _ _ _ hb ?_)
    exact ⟨fun z => by omega, fun _ => h_many hh F4 nb.2 n.toNat 0 (by omega) P HP⟩
  · refine rh1.of (rX32_ruled_238 hm _ _ _ _ _ ?_)
    rw [hn]
    refine ⟨⟨by omega, by omega⟩, fun z => by omega, fun _ => rh1.s E2 ?_⟩
    refine rh1.of (rX32_ruled_266 hm _ _ _ _ _ ?_)
    rw [hn]
    exact ⟨⟨by omega, by omega⟩, fun z => by omega, fun _ => m_many hm hn M4 nb.2 n.toNat 0 (by omega) P HP⟩
  · refine ⟨⟨U.1.fx fA4 gB4 (by omega) (fun _ _ _ => ⟨by omega, by omega⟩) (by omega) (fun _ _ _ => ⟨by omega, by omega⟩), U.2.fx fA4 gB4 (by omega) (fun _ _ _ => ⟨by omega, by omega⟩) (by omega) (fun _ _ _ => ⟨by omega, by omega⟩)⟩, ?_⟩
    rw [gB4 0 218 (by omega), gB4 0 219 (by omega)]
    intro z1 z2
    rw [show B 0 219 - 1 = w by omega, show B 0 218 - 1 = h by omega, hn]
    exact F4.cg (fun c c0 c1 => (M4 c c0 c1).symm)
theorem op_ruled (hh : rh_hs wh) (hm : rh_ms wm) {Mh Mm : rhM} (R : Rpg Mh Mm) (D : Rrd Mh Mm) (x1 x2 : Int) : rC2 wh YX1_ruled 6 [(2, 0), (0, x1), (0, x2)] Mh wm YX32_ruled 4 [(2, 0), (0, x1), (0, x2)] Mm (fun r M' r2 M2' => r = r2 ∧ Rrd M' M2' ∧ frx Frd Mh M' ∧ frx Grd Mm M2') := by
  obtain ⟨M0, hM0⟩ : ∃ M0, M0 = rh_set Mm 0 0 0 := ⟨_, rfl⟩
  have en : ∀ c k, 0 < c → M0 c k = Mm c k := fun c k h => by rw [hM0]; exact rh_set_a (by omega)
  have g0 : frx Grd Mm M0 := by rw [hM0]; exact frx.rf.st (by unfold Grd; omega)
  have D0 : Rrd Mh M0 := by rw [hM0]; exact D.n0
  have R0 : Rpg Mh M0 := R.fx (F := fun _ _ => False) (G := fun c j => c = 0 ∧ j = 0) frx.rf (by rw [hM0]; exact frx.rf.st ⟨rfl, rfl⟩) (fun p a j _ _ hf => hf.elim) (fun a j hf => by omega)
  have i1 := R0.is x1
  by_cases c : ((0 ≤ x1) ∧ (x1 ≤ 7)) ∧ (0 < M0 4 x1)
  case neg =>
    refine ⟨-101, Mh, -101, M0, eC.of1 (rC1.of (by decide) (LE0 rfl) ?_), eC.of1 (rC1.of (by decide) (LE0 rfl) ?_), rfl, D0, frx.rf, g0⟩
    · refine rh1.of (rX1_ruled_0 hh _ _ _ ?_)
      exact ⟨fun _ => ⟨by omega, by omega⟩, fun _ => ⟨rfl, rfl⟩, fun z => absurd (fun s => c (i1.mp s)) z⟩
    · refine rh1.of (rX32_ruled_0 hm _ _ _ ?_)
      rw [← hM0]
      exact ⟨fun _ => ⟨by omega, by omega⟩, fun _ => ⟨rfl, rfl⟩, fun z => absurd c z⟩
  have hp : 0 ≤ x1 ∧ x1 < 8 := by omega
  by_cases d : (8 ≤ x2) ∧ (x2 ≤ 128)
  case neg =>
    refine ⟨-102, Mh, -102, M0, eC.of1 (rC1.of (by decide) (LE0 rfl) ?_), eC.of1 (rC1.of (by decide) (LE0 rfl) ?_), rfl, D0, frx.rf, g0⟩
    · refine rh1.of (rX1_ruled_0 hh _ _ _ ?_)
      exact ⟨fun _ => ⟨by omega, by omega⟩, fun z => absurd (i1.mpr c) z, fun _ => ⟨fun z => absurd z d, fun _ => ⟨rfl, rfl⟩⟩⟩
    · refine rh1.of (rX32_ruled_0 hm _ _ _ ?_)
      rw [← hM0]
      exact ⟨fun _ => ⟨by omega, by omega⟩, fun z => absurd c z, fun _ => ⟨fun _ => ⟨rfl, rfl⟩, fun z => absurd d z⟩⟩
  have hb := hs_pg hh hp.1 hp.2
  obtain ⟨B0, hB0⟩ : ∃ B0, B0 = rh_set (rh_set M0 0 218 0) 0 219 0 := ⟨_, rfl⟩
  have gB0 : frx Grd Mm B0 := by rw [hB0]; exact (g0.st (by unfold Grd; omega)).st (by unfold Grd; omega)
  have RB0 : Rpg Mh B0 := R.fx (F := fun _ _ => False) frx.rf gB0 (fun p a j _ _ hf => hf.elim) (fun a j hf => by unfold Grd at hf; omega)
  have b8 : B0 0 218 = 0 := by rw [hB0, rh_set_j (by decide), rh_set_s]
  have b9 : B0 0 219 = 0 := by rw [hB0, rh_set_s]
  obtain ⟨A1, B1, on1, KA1, EB1, W0, f1, g1⟩ := t_rules0 hh hm RB0 (p := x1) (n := x2) hp d b8
  have R1 : Rpg A1 B1 := RB0.fx f1 g1 (fun p a j p0 p1 h => by unfold Frl at h; omega) (fun a j h => by omega)
  obtain ⟨A2, B2, on2, KA2, EB2, W1, f2, g2⟩ := t_rules1 hh hm R1 (p := x1) (n := x2) hp d (by rw [g1 0 219 (by omega)]; exact b9)
  have R2 : Rpg A2 B2 := R1.fx f2 g2 (fun p a j p0 p1 h => by unfold Frl at h; omega) (fun a j h => by omega)
  have U2 : Rul A2 B2 := ⟨W0.fx f2 g2 (by unfold Frl; omega) (fun r _ _ => ⟨by unfold Frl; omega, by unfold Frl; omega⟩) (by omega) (fun r _ _ => ⟨by omega, by omega⟩), W1⟩
  obtain ⟨v, A', B', H1, H2, D', f3, g3⟩ := t_cells hh hm R2 (p := x1) hp U2
  refine ⟨v, A', v, B', eC.of1 (rC1.of (by decide) (LE0 rfl) ?_), eC.of1 (rC1.of (by decide) (LE0 rfl) ?_), rfl, D', ?_, ?_⟩
  · have KF : eC wh YX24_find 5 [(2, 205), (2, 251 + 39 * x1), (0, x2)] Mh v A' := eC.of1 (rC1.of (by decide) (LE0 rfl) (by
      refine rh1.of (rX24_find_0 hh _ _ _ hb ?_)
      refine rh1.s (vX24_find_4 hh KA1 (LE0 rfl)) ?_
      refine rh1.of (rX24_find_7 hh _ _ _ hb ?_)
      refine rh1.s (vX24_find_11 hh KA2 (LE0 rfl)) ?_
      exact H1 _ ⟨rfl, rfl⟩))
    refine rh1.of (rX1_ruled_0 hh _ _ _ ?_)
    refine ⟨fun _ => ⟨by omega, by omega⟩, fun z => absurd (i1.mpr c) z, fun _ => ⟨fun _ => ⟨⟨by omega, by omega⟩, rh1.s (vX1_ruled_38 hh KF (LE0 rfl)) ?_⟩, fun z => absurd d z⟩⟩
    refine rh1.of (rX1_ruled_41 hh _ _ ?_)
    exact ⟨rfl, rfl⟩
  · refine rh1.of (rX32_ruled_0 hm _ _ _ ?_)
    rw [← hM0, ← hB0]
    refine ⟨fun _ => ⟨by omega, by omega⟩, fun z => absurd c z, fun _ => ⟨fun z => absurd d z, fun _ => rh1.s EB1 ?_⟩⟩
    refine rh1.of (rX32_ruled_48 hm _ _ _ _ _ ?_)
    rw [g1 5 x1 (by omega)]
    refine ⟨hp, fun z => by omega, fun _ => rh1.s EB2 ?_⟩
    have H := H2 x2 on2 (fun r M' => r = v ∧ M' = B') ⟨rfl, rfl⟩
    rw [g2 4 x1 (by omega)] at H
    exact H
  · exact ((f1.w (fun c j h => by unfold Frl at h; unfold Frd; omega)).tr (f2.w (fun c j h => by unfold Frl at h; unfold Frd; omega))).tr (f3.w (fun c j h => by unfold Frd; omega))
  · exact ((gB0.tr (g1.w (fun c j h => by unfold Grd; omega))).tr (g2.w (fun c j h => by unfold Grd; omega))).tr (g3.w (fun c j h => by unfold Grd; omega))
theorem op_table (hh : rh_hs wh) (hm : rh_ms wm) {Mh Mm : rhM} (D : Rrd Mh Mm) (x1 x2 x3 : Int) (hr : rI x1 ∧ rI x2 ∧ rI x3) : rC2 wh YX1_table 3 [(2, 0), (0, x1), (0, x2), (0, x3)] Mh wm YX32_table 1 [(2, 0), (0, x1), (0, x2), (0, x3)] Mm (fun r M' r2 M2' => r = r2 ∧ M' = Mh ∧ M2' = rh_set Mm 0 0 0) := by
  have D0 := D.n0
  obtain ⟨M0, hM0⟩ : ∃ M0, M0 = rh_set Mm 0 0 0 := ⟨_, rfl⟩
  rw [← hM0] at D0 ⊢
  obtain ⟨⟨⟨u1, u2, u3⟩, v1, v2, v3⟩, FF⟩ := D0
  have KH : ∀ v, (0 ≤ x1 ∧ x1 ≤ 6) → eC wh YX24_tell 2 [(2, 205), (0, x1), (0, x2), (0, x3)] Mh v Mh → eC wh YX1_table 3 [(2, 0), (0, x1), (0, x2), (0, x3)] Mh v Mh := fun v c K => eC.of1 (rC1.of (by decide) (LE0 rfl) (by
    refine rh1.of (rX1_table_0 hh _ _ _ _ ?_)
    refine ⟨fun _ => rh1.s (vX1_table_19 hh K (LE0 rfl)) ?_, fun z => absurd c z⟩
    refine rh1.of (rX1_table_22 hh _ _ ?_)
    exact ⟨rfl, rfl⟩))
  by_cases c : 0 ≤ x1 ∧ x1 ≤ 6
  case neg =>
    refine ⟨-102, Mh, -102, M0, eC.of1 (rC1.of (by decide) (LE0 rfl) ?_), eC.of1 (rC1.of (by decide) (LE0 rfl) ?_), rfl, rfl, rfl⟩
    · refine rh1.of (rX1_table_0 hh _ _ _ _ ?_)
      exact ⟨fun z => absurd z c, fun _ => ⟨rfl, rfl⟩⟩
    · refine rh1.of (rX32_table_0 hm _ _ _ _ ?_)
      rw [← hM0]
      exact ⟨fun z => by omega, fun _ => ⟨fun z => by omega, fun _ => ⟨fun z => by omega, fun _ => ⟨fun z => by omega, fun _ => ⟨fun z => by omega, fun _ => ⟨fun z => by omega, fun _ => ⟨fun z => by omega, fun _ => ⟨rfl, rfl⟩⟩⟩⟩⟩⟩⟩⟩
  rcases (by omega : x1 = 0 ∨ x1 = 1 ∨ x1 = 2 ∨ (x1 = 3 ∨ x1 = 4) ∨ (x1 = 5 ∨ x1 = 6)) with rfl | rfl | rfl | w | w
  · refine ⟨_, Mh, M0 0 218, M0, KH (M0 0 218) c (eC.of1 (rC1.of (by decide) (LE0 rfl) ?_)), eC.of1 (rC1.of (by decide) (LE0 rfl) ?_), rfl, rfl, rfl⟩
    · refine rh1.of (rX24_tell_0 hh _ _ _ _ ?_)
      intro z hz
      exact ⟨fun _ => ⟨by decide, u1, rfl⟩, fun z => absurd rfl z⟩
    · refine rh1.of (rX32_table_0 hm _ _ _ _ ?_)
      rw [← hM0]
      exact ⟨fun _ => ⟨rfl, rfl⟩, fun z => absurd rfl z⟩
  · refine ⟨_, Mh, M0 0 219, M0, KH (M0 0 219) c (eC.of1 (rC1.of (by decide) (LE0 rfl) ?_)), eC.of1 (rC1.of (by decide) (LE0 rfl) ?_), rfl, rfl, rfl⟩
    · refine rh1.of (rX24_tell_0 hh _ _ _ _ ?_)
      intro z hz
      exact ⟨fun z => absurd z (by decide), fun _ => ⟨fun _ => ⟨by decide, v1, rfl⟩, fun z => absurd rfl z⟩⟩
    · refine rh1.of (rX32_table_0 hm _ _ _ _ ?_)
      rw [← hM0]
      exact ⟨fun z => absurd z (by decide), fun _ => ⟨fun _ => ⟨rfl, rfl⟩, fun z => absurd rfl z⟩⟩
  · obtain ⟨w, hw⟩ : ∃ w, w = rh_if (0 < M0 0 219 - 1) (M0 0 219 - 1) 0 := ⟨_, rfl⟩
    obtain ⟨h, hh'⟩ : ∃ h, h = rh_if (0 < M0 0 218 - 1) (M0 0 218 - 1) 0 := ⟨_, rfl⟩
    have wb : (w = 0 ∧ M0 0 219 ≤ 1) ∨ (1 ≤ w ∧ M0 0 219 = w + 1) := by
      rw [hw]
      by_cases q : 0 < M0 0 219 - 1
      · rw [rh_if_t q]; omega
      · rw [rh_if_f q]; omega
    have hb' : (h = 0 ∧ M0 0 218 ≤ 1) ∨ (1 ≤ h ∧ M0 0 218 = h + 1) := by
      rw [hh']
      by_cases q : 0 < M0 0 218 - 1
      · rw [rh_if_t q]; omega
      · rw [rh_if_f q]; omega
    by_cases q : ((0 ≤ x2) ∧ (x2 ≤ w - 1)) ∧ ((0 ≤ x3) ∧ (x3 ≤ h - 1))
    · have q2 : ((0 ≤ x2) ∧ (x2 ≤ M0 0 219 - 2)) ∧ ((0 ≤ x3) ∧ (x3 ≤ M0 0 218 - 2)) := by omega
      have F := FF (by omega) (by omega)
      rw [show M0 0 219 - 1 = w by omega, show M0 0 218 - 1 = h by omega] at F
      have cr := cell_r (w := w) (h := h) (i := x2) (j := x3) ⟨by omega, by omega⟩ ⟨by omega, by omega⟩
      have nb : w * h ≤ 6144 := by
        have := Int.mul_le_mul (show w ≤ 63 by omega) (show h ≤ 63 by omega) (show 0 ≤ h by omega) (by decide : (0 : Int) ≤ 63)
        omega
      have K := c_root hh F nb cr
      have e : x3 * (M0 0 219 - 1) + x2 = w * x3 + x2 := by rw [show M0 0 219 - 1 = w by omega, Int.mul_comm]
      refine ⟨_, Mh, M0 173 (w * x3 + x2), M0, KH (M0 173 (w * x3 + x2)) c (eC.of1 (rC1.of (by decide) (LE0 rfl) ?_)), eC.of1 (rC1.of (by decide) (LE0 rfl) ?_), rfl, rfl, rfl⟩
      · refine rh1.of (rX24_tell_0 hh _ _ _ _ ?_)
        intro z hz
        rw [u1, v1, ← hw, ← hh']
        refine ⟨fun z => absurd z (by decide), fun _ => ⟨fun z => absurd z (by decide), fun _ => ⟨fun _ => ⟨⟨by omega, by omega⟩, ⟨by omega, by omega⟩, fun _ => ⟨by omega, by omega⟩, fun _ => ⟨by omega, by omega⟩, fun _ => ⟨⟨by omega, by omega⟩, ?_⟩, fun z => absurd q z⟩, fun z => absurd rfl z⟩⟩⟩
        refine rh1.s (eS.fx 0 (x := w * x3 + x2) rfl ⟨by omega, by omega⟩ rfl) ?_
        refine rh1.s (vX24_tell_88 hh K (LE0 rfl)) ?_
        refine rh1.of (rX24_tell_91 hh _ _ ?_)
        exact ⟨rfl, rfl⟩
      · refine rh1.of (rX32_table_0 hm _ _ _ _ ?_)
        rw [← hM0, rh_if_t q2, e]
        refine ⟨fun z => absurd z (by decide), fun _ => ⟨fun z => absurd z (by decide), fun _ => ⟨fun _ => ⟨⟨by omega, by omega⟩, fun _ => ⟨by omega, by omega⟩, ?_⟩, fun z => absurd rfl z⟩⟩⟩
        (intro zq hzq; replace hzq := hzq.symm; subst hzq)
        rw [rh_if_t (show (1 : Int) ≠ 0 by decide)]
        exact ⟨fun _ => ⟨by omega, by omega⟩, rfl, rfl⟩
    · have q2 : ¬ (((0 ≤ x2) ∧ (x2 ≤ M0 0 219 - 2)) ∧ ((0 ≤ x3) ∧ (x3 ≤ M0 0 218 - 2))) := fun z => q (by omega)
      refine ⟨_, Mh, -1, M0, KH (-1) c (eC.of1 (rC1.of (by decide) (LE0 rfl) ?_)), eC.of1 (rC1.of (by decide) (LE0 rfl) ?_), rfl, rfl, rfl⟩
      · refine rh1.of (rX24_tell_0 hh _ _ _ _ ?_)
        intro z hz
        rw [u1, v1, ← hw, ← hh']
        exact ⟨fun z => absurd z (by decide), fun _ => ⟨fun z => absurd z (by decide), fun _ => ⟨fun _ => ⟨⟨by omega, by omega⟩, ⟨by omega, by omega⟩, fun _ => ⟨by omega, by omega⟩, fun _ => ⟨by omega, by omega⟩, fun z => absurd z q, fun _ => ⟨rfl, rfl⟩⟩, fun z => absurd rfl z⟩⟩⟩
      · refine rh1.of (rX32_table_0 hm _ _ _ _ ?_)
        rw [← hM0, rh_if_f q2]
        refine ⟨fun z => absurd z (by decide), fun _ => ⟨fun z => absurd z (by decide), fun _ => ⟨fun _ => ⟨⟨by omega, by omega⟩, fun _ => ⟨by omega, by omega⟩, ?_⟩, fun z => absurd rfl z⟩⟩⟩
        (intro zq hzq; replace hzq := hzq.symm; subst hzq)
        rw [rh_if_f (show ¬ (0 : Int) ≠ 0 by decide)]
        exact ⟨fun z => absurd rfl z, rfl, rfl⟩
  · by_cases q : (0 ≤ x2) ∧ (x2 ≤ M0 0 218 - 1)
    · have r := u3 x2 q.1 (by omega)
      rw [show 128 * 0 + x2 = x2 by omega] at r
      refine ⟨_, Mh, rh_if (x1 = 3) (M0 169 x2) (M0 170 x2), M0, KH (rh_if (x1 = 3) (M0 169 x2) (M0 170 x2)) c (eC.of1 (rC1.of (by decide) (LE0 rfl) ?_)), eC.of1 (rC1.of (by decide) (LE0 rfl) ?_), rfl, rfl, rfl⟩
      · refine rh1.of (rX24_tell_0 hh _ _ _ _ ?_)
        intro z hz
        rw [rh_if_f (by omega)] at hz
        rw [hz, u1, show 128 * 0 + x2 = x2 by omega]
        refine ⟨fun z => by omega, fun _ => ⟨fun z => by omega, fun _ => ⟨fun z => by omega, fun _ => ⟨by decide, ⟨by omega, by omega⟩, fun z => absurd q z, fun _ => ⟨⟨by omega, by omega⟩, fun z => ⟨⟨by omega, by omega⟩, ?_, rfl⟩, fun z => ⟨⟨by omega, by omega⟩, ?_, rfl⟩⟩⟩⟩⟩⟩
        · rw [rh_if_t (by omega)]; exact r.1.1
        · rw [rh_if_f (by omega)]; exact r.1.2
      · refine rh1.of (rX32_table_0 hm _ _ _ _ ?_)
        rw [← hM0, rh_if_f (show ¬ ¬ ((0 ≤ x2) ∧ (x2 ≤ M0 0 218 - 1)) from fun z => z q)]
        exact ⟨fun z => by omega, fun _ => ⟨fun z => by omega, fun _ => ⟨fun z => by omega, fun _ => ⟨fun _ => ⟨⟨by omega, by omega⟩, fun _ _ => ⟨by omega, by omega⟩, fun _ _ => ⟨by omega, by omega⟩, rfl, rfl⟩, fun _ => ⟨fun _ => ⟨⟨by omega, by omega⟩, fun _ _ => ⟨by omega, by omega⟩, fun _ _ => ⟨by omega, by omega⟩, rfl, rfl⟩, fun z => by omega⟩⟩⟩⟩⟩
    · refine ⟨_, Mh, -1, M0, KH (-1) c (eC.of1 (rC1.of (by decide) (LE0 rfl) ?_)), eC.of1 (rC1.of (by decide) (LE0 rfl) ?_), rfl, rfl, rfl⟩
      · refine rh1.of (rX24_tell_0 hh _ _ _ _ ?_)
        intro z hz
        rw [rh_if_f (by omega)] at hz
        rw [hz, u1]
        exact ⟨fun z => by omega, fun _ => ⟨fun z => by omega, fun _ => ⟨fun z => by omega, fun _ => ⟨by decide, ⟨by omega, by omega⟩, fun _ => ⟨rfl, rfl⟩, fun z => absurd q z⟩⟩⟩⟩
      · refine rh1.of (rX32_table_0 hm _ _ _ _ ?_)
        rw [← hM0, rh_if_t q]
        exact ⟨fun z => by omega, fun _ => ⟨fun z => by omega, fun _ => ⟨fun z => by omega, fun _ => ⟨fun _ => ⟨⟨by omega, by omega⟩, fun z => absurd z q, fun z => absurd z q, rfl, rfl⟩, fun _ => ⟨fun _ => ⟨⟨by omega, by omega⟩, fun z => absurd z q, fun z => absurd z q, rfl, rfl⟩, fun z => by omega⟩⟩⟩⟩⟩
  · by_cases q : (0 ≤ x2) ∧ (x2 ≤ M0 0 219 - 1)
    · have r := v3 x2 q.1 (by omega)
      refine ⟨_, Mh, rh_if (x1 = 5) (M0 171 x2) (M0 172 x2), M0, KH (rh_if (x1 = 5) (M0 171 x2) (M0 172 x2)) c (eC.of1 (rC1.of (by decide) (LE0 rfl) ?_)), eC.of1 (rC1.of (by decide) (LE0 rfl) ?_), rfl, rfl, rfl⟩
      · refine rh1.of (rX24_tell_0 hh _ _ _ _ ?_)
        intro z hz
        rw [rh_if_t (by omega)] at hz
        rw [hz, v1]
        refine ⟨fun z => by omega, fun _ => ⟨fun z => by omega, fun _ => ⟨fun z => by omega, fun _ => ⟨by decide, ⟨by omega, by omega⟩, fun z => absurd q z, fun _ => ⟨⟨by omega, by omega⟩, fun z => ⟨⟨by omega, by omega⟩, ?_, rfl⟩, fun z => ⟨⟨by omega, by omega⟩, ?_, rfl⟩⟩⟩⟩⟩⟩
        · rw [rh_if_t (by omega)]; exact r.1.1
        · rw [rh_if_f (by omega)]; exact r.1.2
      · refine rh1.of (rX32_table_0 hm _ _ _ _ ?_)
        rw [← hM0, rh_if_f (show ¬ ¬ ((0 ≤ x2) ∧ (x2 ≤ M0 0 219 - 1)) from fun z => z q)]
        exact ⟨fun z => by omega, fun _ => ⟨fun z => by omega, fun _ => ⟨fun z => by omega, fun _ => ⟨fun z => by omega, fun _ => ⟨fun z => by omega, fun _ => ⟨fun _ => ⟨⟨by omega, by omega⟩, fun _ _ => ⟨by omega, by omega⟩, fun _ _ => ⟨by omega, by omega⟩, rfl, rfl⟩, fun _ => ⟨fun _ => ⟨⟨by omega, by omega⟩, fun _ _ => ⟨by omega, by omega⟩, fun _ _ => ⟨by omega, by omega⟩, rfl, rfl⟩, fun z => by omega⟩⟩⟩⟩⟩⟩⟩
    · refine ⟨_, Mh, -1, M0, KH (-1) c (eC.of1 (rC1.of (by decide) (LE0 rfl) ?_)), eC.of1 (rC1.of (by decide) (LE0 rfl) ?_), rfl, rfl, rfl⟩
      · refine rh1.of (rX24_tell_0 hh _ _ _ _ ?_)
        intro z hz
        rw [rh_if_t (by omega)] at hz
        rw [hz, v1]
        exact ⟨fun z => by omega, fun _ => ⟨fun z => by omega, fun _ => ⟨fun z => by omega, fun _ => ⟨by decide, ⟨by omega, by omega⟩, fun _ => ⟨rfl, rfl⟩, fun z => absurd q z⟩⟩⟩⟩
      · refine rh1.of (rX32_table_0 hm _ _ _ _ ?_)
        rw [← hM0, rh_if_t q]
        exact ⟨fun z => by omega, fun _ => ⟨fun z => by omega, fun _ => ⟨fun z => by omega, fun _ => ⟨fun z => by omega, fun _ => ⟨fun z => by omega, fun _ => ⟨fun _ => ⟨⟨by omega, by omega⟩, fun z => absurd z q, fun z => absurd z q, rfl, rfl⟩, fun _ => ⟨fun _ => ⟨⟨by omega, by omega⟩, fun z => absurd z q, fun z => absurd z q, rfl, rfl⟩, fun z => by omega⟩⟩⟩⟩⟩⟩⟩
end RuledOp
