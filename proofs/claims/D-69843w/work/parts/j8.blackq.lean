/-! ===== LAYER 2: black, the operation ===== -/
section BlackQ
variable {wh wm : rhW}
theorem m_pre0 (hm : rh_ms wm) {Mm N1 : rhM} {x1 x2 x4 x5 lv W H : Int} (pg : ((0 ≤ x1 ∧ x1 ≤ 7) ∧ 0 < rh_set Mm 0 0 0 4 x1) ∧ (0 ≤ x2 ∧ x2 ≤ 7)) (E : eC wm YX32_levelOf 1 [(2, 0), (0, x1)] (rh_set Mm 0 0 0) lv N1) (e1 : N1 4 x1 = W) (e2 : N1 5 x1 = H) (P : Int → rhM → Prop) (HP : rh1 wm YX32_black 3 143 [(0, 2, 0), (1, 0, x1), (2, 0, x2), (3, 0, 0), (4, 0, x4), (5, 0, x5), (7, 0, lv), (8, 0, W), (9, 0, H), (10, 0, 0), (11, 0, 0)] [] N1 P) : rh1 wm YX32_black 3 0 [(0, 2, 0), (1, 0, x1), (2, 0, x2), (3, 0, 0), (4, 0, x4), (5, 0, x5)] [] Mm P := by
  have K : rh1 wm YX32_black 3 119 [(0, 2, 0), (1, 0, x1), (2, 0, x2), (3, 0, 0), (4, 0, x4), (5, 0, x5)] [(0, lv)] N1 P := by
    refine rh1.of (rX32_black_119 hm _ _ _ _ _ _ _ ?_)
    rw [e1, e2]
    refine ⟨⟨by omega, by omega⟩, fun t ht => ⟨⟨by omega, by omega⟩, fun s hs => ?_⟩⟩
    rw [ht, hs]
    exact HP
  refine rh1.of (rX32_black_0 hm _ _ _ _ _ _ ?_)
  refine ⟨fun _ => ⟨by omega, by omega⟩, fun z => ?_, fun _ => ⟨fun z => absurd rfl z, fun _ t ht => ⟨fun z => by omega, fun _ => ⟨fun z => absurd z (by decide), fun _ => rh1.s (vX32_black_116 hm E (LE0 rfl)) K⟩⟩⟩⟩
  rcases z with z | z
  · exact absurd pg.1 z
  · exact absurd pg.2 z
theorem m_pre2 (hm : rh_ms wm) {Mm N1 : rhM} {x1 x2 x4 x5 lv W H : Int} (pg : ((0 ≤ x1 ∧ x1 ≤ 7) ∧ 0 < rh_set Mm 0 0 0 4 x1) ∧ (0 ≤ x2 ∧ x2 ≤ 7)) (hr : ((1 ≤ x4) ∧ (x4 ≤ 255)) ∧ ((1 ≤ x5) ∧ (x5 ≤ 7))) (E : eC wm YX32_levelOf 1 [(2, 0), (0, x1)] (rh_set Mm 0 0 0) lv N1) (e1 : N1 4 x1 = W) (e2 : N1 5 x1 = H) (P : Int → rhM → Prop) (HP : rh1 wm YX32_black 3 143 [(0, 2, 0), (1, 0, x1), (2, 0, x2), (3, 0, 2), (4, 0, x4), (5, 0, x5), (7, 0, lv), (8, 0, W), (9, 0, H), (10, 0, 0), (11, 0, 0)] [] N1 P) : rh1 wm YX32_black 3 0 [(0, 2, 0), (1, 0, x1), (2, 0, x2), (3, 0, 2), (4, 0, x4), (5, 0, x5)] [] Mm P := by
  have K : rh1 wm YX32_black 3 119 [(0, 2, 0), (1, 0, x1), (2, 0, x2), (3, 0, 2), (4, 0, x4), (5, 0, x5)] [(0, lv)] N1 P := by
    refine rh1.of (rX32_black_119 hm _ _ _ _ _ _ _ ?_)
    rw [e1, e2]
    refine ⟨⟨by omega, by omega⟩, fun t ht => ⟨⟨by omega, by omega⟩, fun s hs => ?_⟩⟩
    rw [ht, hs]
    exact HP
  refine rh1.of (rX32_black_0 hm _ _ _ _ _ _ ?_)
  refine ⟨fun _ => ⟨by omega, by omega⟩, fun z => ?_, fun _ => ⟨fun _ => ⟨fun _ t ht => ⟨fun z => ?_, fun _ => ⟨fun z => absurd z (by decide), fun _ => rh1.s (vX32_black_116 hm E (LE0 rfl)) K⟩⟩, fun z => absurd (.inl (by decide)) z⟩, fun z => absurd (by decide) z⟩⟩
  · rcases z with z | z
    · exact absurd pg.1 z
    · exact absurd pg.2 z
  · rw [rh_if_t ⟨rfl, hr⟩] at ht
    omega
theorem m_pre1 (hm : rh_ms wm) {Mm : rhM} {x1 x2 x4 x5 W H : Int} (pg : ((0 ≤ x1 ∧ x1 ≤ 7) ∧ 0 < rh_set Mm 0 0 0 4 x1) ∧ (0 ≤ x2 ∧ x2 ≤ 7)) (hr : ((0 ≤ x4) ∧ (x4 ≤ 8)) ∧ ((1 ≤ x5) ∧ (x5 ≤ 3))) (e1 : rh_set Mm 0 0 0 4 x1 = W) (e2 : rh_set Mm 0 0 0 5 x1 = H) (P : Int → rhM → Prop) (HP : rh1 wm YX32_black 3 143 [(0, 2, 0), (1, 0, x1), (2, 0, x2), (3, 0, 1), (4, 0, x4), (5, 0, x5), (7, 0, -1), (8, 0, W), (9, 0, H), (10, 0, 0), (11, 0, 0)] [] (rh_set Mm 0 0 0) P) : rh1 wm YX32_black 3 0 [(0, 2, 0), (1, 0, x1), (2, 0, x2), (3, 0, 1), (4, 0, x4), (5, 0, x5)] [] Mm P := by
  refine rh1.of (rX32_black_0 hm _ _ _ _ _ _ ?_)
  refine ⟨fun _ => ⟨by omega, by omega⟩, fun z => ?_, fun _ => ⟨fun _ => ⟨fun z => ?_, fun _ t ht => ⟨fun z => by omega, fun _ => ⟨fun _ => ⟨⟨by omega, by omega⟩, fun u hu => ⟨⟨by omega, by omega⟩, fun v hv => ?_⟩⟩, fun z => absurd rfl z⟩⟩⟩, fun z => absurd (by decide) z⟩⟩
  · rcases z with z | z
    · exact absurd pg.1 z
    · exact absurd pg.2 z
  · rcases z with z | z | z
    · exact absurd rfl z
    · exact absurd hr.1 z
    · exact absurd hr.2 z
  · rw [hu, hv, e1, e2]
    exact HP
theorem m_preN (hm : rh_ms wm) {Mm : rhM} {x1 x2 x3 x4 x5 : Int} (pg : ((0 ≤ x1 ∧ x1 ≤ 7) ∧ 0 < rh_set Mm 0 0 0 4 x1) ∧ (0 ≤ x2 ∧ x2 ≤ 7)) (h0 : x3 ≠ 0) (h1 : ¬ (x3 = 1 ∧ ((0 ≤ x4) ∧ (x4 ≤ 8)) ∧ ((1 ≤ x5) ∧ (x5 ≤ 3)))) (h2 : ¬ (x3 = 2 ∧ ((1 ≤ x4) ∧ (x4 ≤ 255)) ∧ ((1 ≤ x5) ∧ (x5 ≤ 7)))) (P : Int → rhM → Prop) (HP : P (-102) (rh_set Mm 0 0 0)) : rh1 wm YX32_black 3 0 [(0, 2, 0), (1, 0, x1), (2, 0, x2), (3, 0, x3), (4, 0, x4), (5, 0, x5)] [] Mm P := by
  refine rh1.of (rX32_black_0 hm _ _ _ _ _ _ ?_)
  refine ⟨fun _ => ⟨by omega, by omega⟩, fun z => ?_, fun _ => ⟨fun _ => ⟨fun _ t ht => ⟨fun _ => HP, fun z => ?_⟩, fun z => absurd ?_ h1⟩, fun z => absurd h0 z⟩⟩
  · rcases z with z | z
    · exact absurd pg.1 z
    · exact absurd pg.2 z
  · rw [rh_if_f h2] at ht
    exact absurd ht z
  · exact ⟨Classical.not_not.mp (fun q => z (.inl q)), Classical.not_not.mp (fun q => z (.inr (.inl q))), Classical.not_not.mp (fun q => z (.inr (.inr q)))⟩
theorem op_black (hh : rh_hs wh) (hm : rh_ms wm) {Mh Mm : rhM} (R : Rpg Mh Mm) (x1 x2 x3 x4 x5 : Int) : rC2 wh YX1_black (3 + 1) [(2, 0), (0, x1), (0, x2), (0, x3), (0, x4), (0, x5)] Mh wm YX32_black 3 [(2, 0), (0, x1), (0, x2), (0, x3), (0, x4), (0, x5)] Mm (fun r M' r2 M2' => r = r2 ∧ ∃ Mz, frx (fun a _ => a = 16 ∨ a = 19 ∨ a = 20) Mh Mz ∧ Pres Mz Mm M' M2') := by
  have g0 : frx (fun c j => c = 0 ∧ j = 0) Mm (rh_set Mm 0 0 0) := frx.rf.st ⟨rfl, rfl⟩
  have same : Pres Mh Mm Mh (rh_set Mm 0 0 0) := .inl ⟨frx.rf, g0.w (fun c j h => by unfold Gw; omega)⟩
  by_cases pg : ((0 ≤ x1 ∧ x1 ≤ 7) ∧ Mh (251 + 39 * x1) 3 ≠ 0) ∧ (0 ≤ x2 ∧ x2 ≤ 7)
  case neg =>
    refine ⟨-101, Mh, -101, rh_set Mm 0 0 0, eC.of1 (rC1.of (by decide) (LE0 rfl) ?_), eC.of1 (rC1.of (by decide) (LE0 rfl) ?_), rfl, Mh, frx.rf, same⟩
    · refine rh1.up (rX1_blacka_0 hh _ _ _ _ _ _ ?_)
      refine ⟨fun _ => ⟨by omega, by omega⟩, fun _ => ⟨rfl, rfl⟩, fun z => absurd ?_ pg⟩
      exact ⟨Classical.not_not.mp (fun q => z (.inl q)), Classical.not_not.mp (fun q => z (.inr q))⟩
    · refine rh1.of (rX32_black_0 hm _ _ _ _ _ _ ?_)
      refine ⟨fun _ => ⟨by omega, by omega⟩, fun _ => ⟨rfl, rfl⟩, fun z => absurd ?_ pg⟩
      have z1 := Classical.not_not.mp (fun q => z (.inl q))
      have z2 := Classical.not_not.mp (fun q => z (.inr q))
      rw [g0 4 x1 (by omega)] at z1
      exact ⟨⟨z1.1, (R x1 z1.1.1 (by omega)).2.mpr z1.2⟩, z2⟩
  have hp : 0 ≤ x1 ∧ x1 < 8 := by omega
  have hq : 0 ≤ x2 ∧ x2 < 8 := by omega
  obtain ⟨⟨a1, a2, a3, a4, a5, a6, a7, a8, a9, a10⟩, ab⟩ := R x1 hp.1 hp.2
  have pgm : ((0 ≤ x1 ∧ x1 ≤ 7) ∧ 0 < rh_set Mm 0 0 0 4 x1) ∧ (0 ≤ x2 ∧ x2 ≤ 7) := ⟨⟨pg.1.1, by rw [g0 4 x1 (by omega)]; exact ab.mp pg.1.2⟩, pg.2⟩
  have W0 : 0 < Mm 4 x1 := ab.mp pg.1.2
  have n4 : rh_set Mm 0 0 0 4 x1 = Mm 4 x1 := g0 4 x1 (by omega)
  have n5 : rh_set Mm 0 0 0 5 x1 = Mm 5 x1 := g0 5 x1 (by omega)
  have hx5 := hs_pgs hh hp.1 hp.2
  -- the level, on both sides
  have lev : ∀ Ms : rhM, frx (fun a _ => a = 16 ∨ a = 19 ∨ a = 20) Mh Ms → ∃ lv A' N1, eC wh YX9_levelOf 1 [(2, 16), (2, 251 + 39 * x1)] Ms lv A' ∧ eC wm YX32_levelOf 1 [(2, 0), (0, x1)] (rh_set Mm 0 0 0) lv N1 ∧ frx (fun a _ => a = 17) Ms A' ∧ frx (fun a _ => a = 8) (rh_set Mm 0 0 0) N1 := fun Ms fs => by
    have RS : Rpg Ms (rh_set Mm 0 0 0) := R.fx fs g0 (fun p a j p0 p1 h => ⟨(by omega), (by omega)⟩) (fun a j h => ⟨(by omega), (by omega), (by omega)⟩)
    obtain ⟨r, A', r2, N1, E1, E2, q1, q2, q3⟩ := c_level hh hm Ms (rh_set Mm 0 0 0) (251 + 39 * x1) x1 hx5 hp ⟨by omega, by omega⟩ (RS x1 hp.1 hp.2).1
    exact ⟨r, A', N1, E1, q1 ▸ E2, fun a j h => congrFun (q2 a h) j, fun a j h => congrFun (q3 a h) j⟩
  by_cases c0 : x3 = 0
  · subst c0
    obtain ⟨lv, A', N1, E1, E2, q2, q3⟩ := lev (rh_set (rh_set Mh 16 0 x4) 16 1 x5) ((frx.rf.st (.inl rfl)).st (.inl rfl))
    have fA1 : frx (fun c _ => c = 8 ∨ c = 9 ∨ c = 16 ∨ c = 17 ∨ c = 19 ∨ c = 20) Mh (rh_set A' 16 3 lv) := ((((frx.rf.st (r := 16) (i := 0) (v := x4) (by omega)).st (r := 16) (i := 1) (v := x5) (by omega)).tr (q2.w (fun c j h => by omega))).st (by omega))
    obtain ⟨b1, b2, -⟩ := pgv_R R hp fA1
    have gN1 : frx (fun c _ => c = 0 ∨ c = 6 ∨ c = 8) Mm N1 := (g0.w (fun c j h => by omega)).tr (q3.w (fun c j h => by omega))
    obtain ⟨M1, HH, f1, s1⟩ := h_maina hh (A := Mh) (f := fun k => rh_if (Mm 3 (6144 * x1 + k) ≤ lv) (1 : Int) 0) hp hq (c_beginA hh hx5 E1) b1 b2 ⟨a3, a4⟩ ⟨a5, a6⟩ a7 a8 (fun M f x y x0 xl y0 yl => by
      have fM : frx (fun c _ => c = 8 ∨ c = 9 ∨ c = 16 ∨ c = 17 ∨ c = 19 ∨ c = 20) Mh M := ((fA1.st (.inl rfl)).st (.inl rfl)).tr (f.w (fun c j h => by omega))
      exact eC.up 2 (c_isBA hh hx5 (pgv_R R hp fM) (by rw [f 16 3 (by decide), rh_set_a (by decide), rh_set_a (by decide), rh_set_s]) ⟨x0, xl⟩ ⟨y0, yl⟩))
    obtain ⟨M2, HM, f2, s2⟩ := m_mainB hm (B := N1) (p := x1) (q := x2) (rl := 0) (a := x4) (b := x5) (lv := lv) (f := fun k => rh_if (Mm 3 (6144 * x1 + k) ≤ lv) (1 : Int) 0) hq a7 a8 (fun M g k n k0 k1 n0 n1 Q HQ => m_st0 hm hp (pgm_R R hp (gN1.tr (g.w (fun c j h => by omega)))) k0 k1 n0 n1 Q HQ)
    have fM1 : frx (fun c _ => c = 8 ∨ c = 9 ∨ c = 16 ∨ c = 17 ∨ c = 19 ∨ c = 20) Mh M1 := ((fA1.st (.inl rfl)).st (.inl rfl)).tr (f1.w (fun c j h => by omega))
    refine ⟨_, _, _, _, eC.of1 (rC1.of (by decide) (LE0 rfl) (h_prea hh pg (eC.up 3 (c_takesA hh)) _ (fun z => absurd z (by decide)) (fun _ => HH _ ⟨rfl, rfl⟩))), eC.of1 (rC1.of (by decide) (LE0 rfl) (m_pre0 hm pgm E2 (gN1 4 x1 (by omega)) (gN1 5 x1 (by omega)) _ (HM _ ⟨rfl, rfl⟩))), rfl, ?_⟩
    exact bk_fin R hp hq rfl rfl W0 fM1 (((g0.w (fun c j h => by unfold Gw; omega)).tr (q3.w (fun c j h => by unfold Gw; omega))).tr (f2.w (fun c j h => by unfold Gw; omega))) (by rw [f1 8 1 (by decide), rh_set_j (by decide), rh_set_s]) (by rw [f1 8 2 (by decide), rh_set_s]) s1 s2
  by_cases c1 : x3 = 1
  · subst c1
    by_cases c1' : ((0 ≤ x4) ∧ (x4 ≤ 8)) ∧ ((1 ≤ x5) ∧ (x5 ≤ 3))
    case neg =>
      exact ⟨-102, Mh, -102, rh_set Mm 0 0 0, eC.of1 (rC1.of (by decide) (LE0 rfl) (h_preb hh pg (eC.up 2 (c_takesB hh)) _ (fun _ => ⟨rfl, rfl⟩) (fun z => absurd (rh_if_f c1') z))), eC.of1 (rC1.of (by decide) (LE0 rfl) (m_preN hm pgm (by decide) (fun z => c1' z.2) (fun z => absurd z.1 (by decide)) _ ⟨rfl, rfl⟩)), rfl, Mh, frx.rf, same⟩
    have fA1 : frx (fun c _ => c = 8 ∨ c = 9 ∨ c = 16 ∨ c = 17 ∨ c = 19 ∨ c = 20) Mh (rh_set (rh_set Mh 19 0 x4) 19 1 x5) := (frx.rf.st (by omega)).st (by omega)
    obtain ⟨b1, b2, -⟩ := pgv_R R hp fA1
    have gN1 : frx (fun c _ => c = 0 ∨ c = 6 ∨ c = 8) Mm (rh_set Mm 0 0 0) := g0.w (fun c j h => by omega)
    obtain ⟨M1, HH, f1, s1⟩ := h_mainb hh (A := Mh) (f := fun k => mnR (fun k => Mm 3 (6144 * x1 + k)) (Mm 4 x1) (Mm 5 x1) (k % Mm 4 x1) (k / Mm 4 x1) x4 x5) hp hq (c_beginB hh hx5) b1 b2 ⟨a3, a4⟩ ⟨a5, a6⟩ a7 a8 (fun M f x y x0 xl y0 yl => by
      have fM : frx (fun c _ => c = 8 ∨ c = 9 ∨ c = 16 ∨ c = 17 ∨ c = 19 ∨ c = 20) Mh M := ((fA1.st (.inl rfl)).st (.inl rfl)).tr (f.w (fun c j h => by omega))
      have dx := dm_x (W := Mm 4 x1) (v := y) x0 xl
      show eC wh YX10_isBlack 3 _ M (mnR (fun k => Mm 3 (6144 * x1 + k)) (Mm 4 x1) (Mm 5 x1) ((Mm 4 x1 * y + x) % Mm 4 x1) ((Mm 4 x1 * y + x) / Mm 4 x1) x4 x5) M
      rw [dx.1, dx.2]
      exact eC.up 1 (h_means hh hx5 (pgv_R R hp fM) (by rw [f 19 0 (by decide), rh_set_a (by decide), rh_set_a (by decide), rh_set_j (by decide), rh_set_s]) (by rw [f 19 1 (by decide), rh_set_a (by decide), rh_set_a (by decide), rh_set_s]) c1'.1 c1'.2 ⟨x0, xl⟩ ⟨y0, yl⟩))
    obtain ⟨M2, HM, f2, s2⟩ := m_mainB hm (B := rh_set Mm 0 0 0) (p := x1) (q := x2) (rl := 1) (a := x4) (b := x5) (lv := -1) (f := fun k => mnR (fun k => Mm 3 (6144 * x1 + k)) (Mm 4 x1) (Mm 5 x1) (k % Mm 4 x1) (k / Mm 4 x1) x4 x5) hq a7 a8 (fun M g k n k0 k1 n0 n1 Q HQ => m_st1 hm hp (pgm_R R hp (gN1.tr (g.w (fun c j h => by omega)))) c1'.1 c1'.2 k0 k1 n0 n1 Q HQ)
    have fM1 : frx (fun c _ => c = 8 ∨ c = 9 ∨ c = 16 ∨ c = 17 ∨ c = 19 ∨ c = 20) Mh M1 := ((fA1.st (.inl rfl)).st (.inl rfl)).tr (f1.w (fun c j h => by omega))
    refine ⟨_, _, _, _, eC.of1 (rC1.of (by decide) (LE0 rfl) (h_preb hh pg (eC.up 2 (c_takesB hh)) _ (fun z => by rw [rh_if_t c1'] at z; exact absurd z (by decide)) (fun _ => HH _ ⟨rfl, rfl⟩))), eC.of1 (rC1.of (by decide) (LE0 rfl) (m_pre1 hm pgm c1' n4 n5 _ (HM _ ⟨rfl, rfl⟩))), rfl, ?_⟩
    exact bk_fin R hp hq rfl rfl W0 fM1 ((g0.w (fun c j h => by unfold Gw; omega)).tr (f2.w (fun c j h => by unfold Gw; omega))) (by rw [f1 8 1 (by decide), rh_set_j (by decide), rh_set_s]) (by rw [f1 8 2 (by decide), rh_set_s]) s1 s2
  by_cases c2 : x3 = 2
  · subst c2
    by_cases c2' : ((1 ≤ x4) ∧ (x4 ≤ 255)) ∧ ((1 ≤ x5) ∧ (x5 ≤ 7))
    case neg =>
      exact ⟨-102, Mh, -102, rh_set Mm 0 0 0, eC.of1 (rC1.of (by decide) (LE0 rfl) (h_prec hh pg (eC.up 2 (c_takesC hh)) _ (fun _ => ⟨rfl, rfl⟩) (fun z => absurd (rh_if_f c2') z))), eC.of1 (rC1.of (by decide) (LE0 rfl) (m_preN hm pgm (by decide) (fun z => absurd z.1 (by decide)) (fun z => c2' z.2) _ ⟨rfl, rfl⟩)), rfl, Mh, frx.rf, same⟩
    obtain ⟨lv, A', N1, E1, E2, q2, q3⟩ := lev (rh_set (rh_set Mh 20 0 x4) 20 1 x5) ((frx.rf.st (.inr (.inr rfl))).st (.inr (.inr rfl)))
    have fA1 : frx (fun c _ => c = 8 ∨ c = 9 ∨ c = 16 ∨ c = 17 ∨ c = 19 ∨ c = 20) Mh (rh_set A' 16 3 lv) := ((((frx.rf.st (r := 20) (i := 0) (v := x4) (by omega)).st (r := 20) (i := 1) (v := x5) (by omega)).tr (q2.w (fun c j h => by omega))).st (by omega))
    obtain ⟨b1, b2, -⟩ := pgv_R R hp fA1
    have gN1 : frx (fun c _ => c = 0 ∨ c = 6 ∨ c = 8) Mm N1 := (g0.w (fun c j h => by omega)).tr (q3.w (fun c j h => by omega))
    obtain ⟨M1, HH, f1, s1⟩ := h_mainc hh (A := Mh) (f := fun k => rgR (fun k => Mm 3 (6144 * x1 + k)) (Mm 4 x1) (Mm 5 x1) (k % Mm 4 x1) (k / Mm 4 x1) x4 x5 lv) hp hq (c_beginC hh hx5 E1) b1 b2 ⟨a3, a4⟩ ⟨a5, a6⟩ a7 a8 (fun M f x y x0 xl y0 yl => by
      have fM : frx (fun c _ => c = 8 ∨ c = 9 ∨ c = 16 ∨ c = 17 ∨ c = 19 ∨ c = 20) Mh M := ((fA1.st (.inl rfl)).st (.inl rfl)).tr (f.w (fun c j h => by omega))
      have dx := dm_x (W := Mm 4 x1) (v := y) x0 xl
      show eC wh YX11_isBlack 3 _ M (rgR (fun k => Mm 3 (6144 * x1 + k)) (Mm 4 x1) (Mm 5 x1) ((Mm 4 x1 * y + x) % Mm 4 x1) ((Mm 4 x1 * y + x) / Mm 4 x1) x4 x5 lv) M
      rw [dx.1, dx.2]
      exact eC.up 1 (h_range hh hx5 (pgv_R R hp fM) (by rw [f 20 0 (by decide), rh_set_a (by decide), rh_set_a (by decide), rh_set_a (by decide), q2 20 0 (by decide), rh_set_j (by decide), rh_set_s]) (by rw [f 20 1 (by decide), rh_set_a (by decide), rh_set_a (by decide), rh_set_a (by decide), q2 20 1 (by decide), rh_set_s]) (by rw [f 16 3 (by decide), rh_set_a (by decide), rh_set_a (by decide), rh_set_s]) c2'.2 ⟨x0, xl⟩ ⟨y0, yl⟩))
    obtain ⟨M2, HM, f2, s2⟩ := m_mainB hm (B := N1) (p := x1) (q := x2) (rl := 2) (a := x4) (b := x5) (lv := lv) (f := fun k => rgR (fun k => Mm 3 (6144 * x1 + k)) (Mm 4 x1) (Mm 5 x1) (k % Mm 4 x1) (k / Mm 4 x1) x4 x5 lv) hq a7 a8 (fun M g k n k0 k1 n0 n1 Q HQ => m_st2 hm hp (pgm_R R hp (gN1.tr (g.w (fun c j h => by omega)))) c2'.2 k0 k1 n0 n1 Q HQ)
    have fM1 : frx (fun c _ => c = 8 ∨ c = 9 ∨ c = 16 ∨ c = 17 ∨ c = 19 ∨ c = 20) Mh M1 := ((fA1.st (.inl rfl)).st (.inl rfl)).tr (f1.w (fun c j h => by omega))
    refine ⟨_, _, _, _, eC.of1 (rC1.of (by decide) (LE0 rfl) (h_prec hh pg (eC.up 2 (c_takesC hh)) _ (fun z => by rw [rh_if_t c2'] at z; exact absurd z (by decide)) (fun _ => HH _ ⟨rfl, rfl⟩))), eC.of1 (rC1.of (by decide) (LE0 rfl) (m_pre2 hm pgm c2' E2 (gN1 4 x1 (by omega)) (gN1 5 x1 (by omega)) _ (HM _ ⟨rfl, rfl⟩))), rfl, ?_⟩
    exact bk_fin R hp hq rfl rfl W0 fM1 (((g0.w (fun c j h => by unfold Gw; omega)).tr (q3.w (fun c j h => by unfold Gw; omega))).tr (f2.w (fun c j h => by unfold Gw; omega))) (by rw [f1 8 1 (by decide), rh_set_j (by decide), rh_set_s]) (by rw [f1 8 2 (by decide), rh_set_s]) s1 s2
  · refine ⟨-102, Mh, -102, rh_set Mm 0 0 0, eC.of1 (rC1.of (by decide) (LE0 rfl) ?_), eC.of1 (rC1.of (by decide) (LE0 rfl) (m_preN hm pgm c0 (fun z => c1 z.1) (fun z => c2 z.1) _ ⟨rfl, rfl⟩)), rfl, Mh, frx.rf, same⟩
    refine rh1.up (rX1_blacka_0 hh _ _ _ _ _ _ ?_)
    refine ⟨fun _ => ⟨by omega, by omega⟩, fun z => ?_, fun _ => rh1.s (vX1_black_25 hh) ?_⟩
    · rcases z with z | z
      · exact absurd pg.1 z
      · exact absurd pg.2 z
    refine rh1.up (rX1_blacka_26 hh _ _ _ _ _ _ _ _ _ ?_)
    exact ⟨⟨by omega, by omega⟩, fun z => by omega, fun _ => ⟨rfl, rfl⟩⟩
end BlackQ
