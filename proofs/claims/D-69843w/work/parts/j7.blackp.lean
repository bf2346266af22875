/-! ===== LAYER 2: black, both sides ===== -/
section BlackP
variable {wh wm : rhW}
theorem m_mainB (hm : rh_ms wm) {B : rhM} {p q rl a b lv W H : Int} {f : Int → Int} (hq : 0 ≤ q ∧ q < 8) (hN0 : 0 ≤ W * H) (hN : W * H ≤ 6144)
    (S : ∀ (M : rhM), frx (fun c _ => c = 6) B M → ∀ k n : Int, 0 ≤ k → k < W * H → 0 ≤ n → n ≤ k → ∀ P : Int → rhM → Prop, rh1 wm YX32_black 3 143 [(0, 2, 0), (1, 0, p), (2, 0, q), (3, 0, rl), (4, 0, a), (5, 0, b), (7, 0, lv), (8, 0, W), (9, 0, H), (10, 0, n + rh_if (f k ≠ 0) (1 : Int) 0), (11, 0, k + 1)] [] (rh_set M 6 k (rh_if (f k ≠ 0) (0 : Int) 255)) P → rh1 wm YX32_black 3 143 [(0, 2, 0), (1, 0, p), (2, 0, q), (3, 0, rl), (4, 0, a), (5, 0, b), (7, 0, lv), (8, 0, W), (9, 0, H), (10, 0, n), (11, 0, k)] [] M P) :
    ∃ M2, (∀ P : Int → rhM → Prop, P (bcn f (W * H).toNat) (m_bec M2 q W H) → rh1 wm YX32_black 3 143 [(0, 2, 0), (1, 0, p), (2, 0, q), (3, 0, rl), (4, 0, a), (5, 0, b), (7, 0, lv), (8, 0, W), (9, 0, H), (10, 0, 0), (11, 0, 0)] [] B P) ∧ frx (fun c _ => c = 6) B M2 ∧ Spm f M2 (W * H) := by
  obtain ⟨M2, L, g, s⟩ := m_blkL hm S (W * H).toNat 0 B (by omega) (by decide) frx.rf (fun i i0 i1 => by omega)
  refine ⟨M2, fun P HP => rh1.s L ?_, g, s⟩
  refine rh1.of (rX32_black_143 hm _ _ _ _ _ _ _ _ _ _ _ ?_)
  refine ⟨⟨by omega, by omega⟩, fun z => by omega, fun _ => rh1.s (vX32_black_277 hm (c_bec hm hq M2 hN0 hN) (LE0 rfl)) ?_⟩
  refine rh1.of (rX32_black_280 hm _ _ ?_)
  exact HP
theorem bk_fin {Mh Mm M1 M2 : rhM} {p q W H : Int} {f : Int → Int} (R : Rpg Mh Mm) (hp : 0 ≤ p ∧ p < 8) (hq : 0 ≤ q ∧ q < 8) (hW : Mm 4 p = W) (hH : Mm 5 p = H) (hW0 : 0 < W) (fA : frx (fun c _ => c = 8 ∨ c = 9 ∨ c = 16 ∨ c = 17 ∨ c = 19 ∨ c = 20) Mh M1) (gB : frx Gw Mm M2) (q1 : M1 8 1 = W) (q2 : M1 8 2 = H) (s : Spi f M1 (W * H)) (t : Spm f M2 (W * H)) : ∃ Mz, frx (fun a _ => a = 16 ∨ a = 19 ∨ a = 20) Mh Mz ∧ Pres Mz Mm (m_lay M1 (251 + 39 * q) 8) (m_bec M2 q W H) := by
  obtain ⟨⟨a1, a2, a3, a4, a5, a6, a7, a8, a9, a10⟩, -⟩ := R p hp.1 hp.2
  rw [hW] at a3 a4 a7 a8 a9
  rw [hH] at a5 a6 a7 a8 a9
  refine ⟨fun c j => if c = 16 ∨ c = 19 ∨ c = 20 then M1 c j else Mh c j, fun c j h => if_neg h, .inr ⟨q, hq, ?_⟩⟩
  have Rz : Rpg (fun c j => if c = 16 ∨ c = 19 ∨ c = 20 then M1 c j else Mh c j) Mm := R.fx (F := fun a _ => a = 16 ∨ a = 19 ∨ a = 20) (G := fun _ _ => False) (fun c j h => if_neg h) frx.rf (fun p a j p0 p1 h => ⟨(by omega), (by omega)⟩) (fun a j h => absurd h id)
  refine Laid.mk Rz hq (fun c j h => ?_) gB ⟨q1, q2, a3, a4, a5, a6, a7, a8, a9, fun k k0 k1 => ?_⟩ hW0
  · show M1 c j = if c = 16 ∨ c = 19 ∨ c = 20 then M1 c j else Mh c j
    by_cases y : c = 16 ∨ c = 19 ∨ c = 20
    · rw [if_pos y]
    · rw [if_neg y]; exact fA c j (by unfold Hw at h; omega)
  · rw [s k k0 k1, t k k0 k1]
    by_cases y : f k ≠ 0
    · rw [rh_if_t y]; exact ⟨by decide, by decide, by decide⟩
    · rw [rh_if_f y]; exact ⟨by decide, by decide, by decide⟩
theorem pgv_R {Mh Mm M : rhM} {p : Int} (R : Rpg Mh Mm) (hp : 0 ≤ p ∧ p < 8) (f : frx (fun c _ => c = 8 ∨ c = 9 ∨ c = 16 ∨ c = 17 ∨ c = 19 ∨ c = 20) Mh M) : Pgv M (251 + 39 * p) (fun k => Mm 3 (6144 * p + k)) (Mm 4 p) (Mm 5 p) := by
  obtain ⟨⟨a1, a2, a3, a4, a5, a6, a7, a8, a9, a10⟩, -⟩ := R p hp.1 hp.2
  refine ⟨by rw [f _ _ (by omega)]; exact a1, by rw [f _ _ (by omega)]; exact a2, ⟨a3, a4⟩, ⟨a5, a6⟩, a8, fun k k0 k1 => ?_, fun k k0 k1 => (a10 k k0 k1).2⟩
  rw [f _ _ (by omega)]
  exact (a10 k k0 k1).1
theorem pgm_R {Mh Mm M : rhM} {p : Int} (R : Rpg Mh Mm) (hp : 0 ≤ p ∧ p < 8) (f : frx (fun c _ => c = 0 ∨ c = 6 ∨ c = 8) Mm M) : Pgm M p (fun k => Mm 3 (6144 * p + k)) (Mm 4 p) (Mm 5 p) := by
  obtain ⟨⟨a1, a2, a3, a4, a5, a6, a7, a8, a9, a10⟩, -⟩ := R p hp.1 hp.2
  exact ⟨f _ _ (by omega), f _ _ (by omega), ⟨a3, a4⟩, ⟨a5, a6⟩, a8, fun k k0 k1 => f _ _ (by omega), fun k k0 k1 => (a10 k k0 k1).2⟩
theorem dm_k {W k : Int} (hk : 0 ≤ k) : W * (k / W) + k % W = k := Int.mul_ediv_add_emod k W
theorem m_st0 (hm : rh_ms wm) {M : rhM} {p q a b lv W H k n : Int} {g : Int → Int} (hp : 0 ≤ p ∧ p < 8) (P : Pgm M p g W H) (k0 : 0 ≤ k) (k1 : k < W * H) (n0 : 0 ≤ n) (n1 : n ≤ k) (Q : Int → rhM → Prop) (HQ : rh1 wm YX32_black 3 143 [(0, 2, 0), (1, 0, p), (2, 0, q), (3, 0, 0), (4, 0, a), (5, 0, b), (7, 0, lv), (8, 0, W), (9, 0, H), (10, 0, n + rh_if (rh_if (g k ≤ lv) (1 : Int) 0 ≠ 0) (1 : Int) 0), (11, 0, k + 1)] [] (rh_set M 6 k (rh_if (rh_if (g k ≤ lv) (1 : Int) 0 ≠ 0) (0 : Int) 255)) Q) : rh1 wm YX32_black 3 143 [(0, 2, 0), (1, 0, p), (2, 0, q), (3, 0, 0), (4, 0, a), (5, 0, b), (7, 0, lv), (8, 0, W), (9, 0, H), (10, 0, n), (11, 0, k)] [] M Q := by
  obtain ⟨e1, e2, W1, H1, hN, eg, gb⟩ := P
  have hW0 : 0 < W := by
    rcases Int.lt_or_le 0 W with h | h
    · exact h
    · rw [show W = 0 by omega, Int.zero_mul] at k1; omega
  have ib := (if10 (P := rh_if (g k ≤ lv) (1 : Int) 0 ≠ 0)).2.2
  have e6 : ((6144 * p) + ((k / W) * W)) + (k % W) = 6144 * p + k := by
    have := dm_k (W := W) k0
    rw [Int.mul_comm (k / W) W]; omega
  refine rh1.of (rX32_black_143 hm _ _ _ _ _ _ _ _ _ _ _ ?_)
  rw [e1, e6, eg k k0 k1]
  refine ⟨⟨by omega, by omega⟩, fun _ => ⟨⟨k0, hW0⟩, ⟨k0, hW0⟩, fun _ => ⟨hp, ⟨by omega, by omega⟩, fun t ht => ⟨⟨by omega, by omega⟩, fun s hs => ?_⟩⟩, fun z => absurd rfl z⟩, fun z => absurd k1 z⟩
  rw [hs, ht]
  exact ⟨⟨by omega, by omega⟩, ⟨by omega, by omega⟩, HQ⟩
theorem m_st1 (hm : rh_ms wm) {M : rhM} {p q a b lv W H k n : Int} {g : Int → Int} (hp : 0 ≤ p ∧ p < 8) (P : Pgm M p g W H) (ha2 : 0 ≤ a ∧ a ≤ 8) (hb2 : 1 ≤ b ∧ b ≤ 3) (k0 : 0 ≤ k) (k1 : k < W * H) (n0 : 0 ≤ n) (n1 : n ≤ k) (Q : Int → rhM → Prop) (HQ : rh1 wm YX32_black 3 143 [(0, 2, 0), (1, 0, p), (2, 0, q), (3, 0, 1), (4, 0, a), (5, 0, b), (7, 0, lv), (8, 0, W), (9, 0, H), (10, 0, n + rh_if (mnR g W H (k % W) (k / W) a b ≠ 0) (1 : Int) 0), (11, 0, k + 1)] [] (rh_set M 6 k (rh_if (mnR g W H (k % W) (k / W) a b ≠ 0) (0 : Int) 255)) Q) : rh1 wm YX32_black 3 143 [(0, 2, 0), (1, 0, p), (2, 0, q), (3, 0, 1), (4, 0, a), (5, 0, b), (7, 0, lv), (8, 0, W), (9, 0, H), (10, 0, n), (11, 0, k)] [] M Q := by
  have P' := P
  obtain ⟨e1, e2, W1, H1, hN, eg, gb⟩ := P
  have hW0 : 0 < W := by
    rcases Int.lt_or_le 0 W with h | h
    · exact h
    · rw [show W = 0 by omega, Int.zero_mul] at k1; omega
  have ib := (if10 (P := mnR g W H (k % W) (k / W) a b ≠ 0)).2.2
  have db := dm_b hW0 k0 k1
  refine rh1.of (rX32_black_143 hm _ _ _ _ _ _ _ _ _ _ _ ?_)
  refine ⟨⟨by omega, by omega⟩, fun _ => ⟨⟨k0, hW0⟩, ⟨k0, hW0⟩, fun z => absurd z (by decide), fun _ => ⟨fun _ => rh1.s (vX32_black_208 hm (m_means hm hp P' ha2 hb2 db.1 db.2) (LE0 rfl)) ?_, fun z => absurd rfl z⟩⟩, fun z => absurd k1 z⟩
  refine rh1.of (rX32_black_211 hm _ _ _ _ _ _ _ _ _ _ _ _ ?_)
  intro t ht
  rw [ht]
  refine ⟨⟨by omega, by omega⟩, fun s hs => ?_⟩
  rw [hs]
  exact ⟨⟨by omega, by omega⟩, ⟨by omega, by omega⟩, HQ⟩
theorem m_st2 (hm : rh_ms wm) {M : rhM} {p q a b lv W H k n : Int} {g : Int → Int} (hp : 0 ≤ p ∧ p < 8) (P : Pgm M p g W H) (hb2 : 1 ≤ b ∧ b ≤ 7) (k0 : 0 ≤ k) (k1 : k < W * H) (n0 : 0 ≤ n) (n1 : n ≤ k) (Q : Int → rhM → Prop) (HQ : rh1 wm YX32_black 3 143 [(0, 2, 0), (1, 0, p), (2, 0, q), (3, 0, 2), (4, 0, a), (5, 0, b), (7, 0, lv), (8, 0, W), (9, 0, H), (10, 0, n + rh_if (rgR g W H (k % W) (k / W) a b lv ≠ 0) (1 : Int) 0), (11, 0, k + 1)] [] (rh_set M 6 k (rh_if (rgR g W H (k % W) (k / W) a b lv ≠ 0) (0 : Int) 255)) Q) : rh1 wm YX32_black 3 143 [(0, 2, 0), (1, 0, p), (2, 0, q), (3, 0, 2), (4, 0, a), (5, 0, b), (7, 0, lv), (8, 0, W), (9, 0, H), (10, 0, n), (11, 0, k)] [] M Q := by
  have P' := P
  obtain ⟨e1, e2, W1, H1, hN, eg, gb⟩ := P
  have hW0 : 0 < W := by
    rcases Int.lt_or_le 0 W with h | h
    · exact h
    · rw [show W = 0 by omega, Int.zero_mul] at k1; omega
  have ib := (if10 (P := rgR g W H (k % W) (k / W) a b lv ≠ 0)).2.2
  have db := dm_b hW0 k0 k1
  refine rh1.of (rX32_black_143 hm _ _ _ _ _ _ _ _ _ _ _ ?_)
  refine ⟨⟨by omega, by omega⟩, fun _ => ⟨⟨k0, hW0⟩, ⟨k0, hW0⟩, fun z => absurd z (by decide), fun _ => ⟨fun z => absurd z (by decide), fun _ => rh1.s (vX32_black_226 hm (m_range hm hp P' hb2 db.1 db.2) (LE0 rfl)) ?_⟩⟩, fun z => absurd k1 z⟩
  refine rh1.of (rX32_black_229 hm _ _ _ _ _ _ _ _ _ _ _ _ ?_)
  intro t ht
  rw [ht]
  refine ⟨⟨by omega, by omega⟩, fun s hs => ?_⟩
  rw [hs]
  exact ⟨⟨by omega, by omega⟩, ⟨by omega, by omega⟩, HQ⟩
theorem h_prea (hh : rh_hs wh) {A : rhM} {x1 x2 x4 x5 tv : Int} (pg : ((0 ≤ x1 ∧ x1 ≤ 7) ∧ A (251 + 39 * x1) 3 ≠ 0) ∧ (0 ≤ x2 ∧ x2 ≤ 7)) (T : eC wh YX9_takes 3 [(2, 16), (0, x4), (0, x5)] A tv A) (P : Int → rhM → Prop) (h1 : tv = 0 → P (-102) A) (h2 : tv ≠ 0 → rh1 wh YX1_black (3 + 1) 60 [(0, 2, 0), (1, 0, x1), (2, 0, x2), (4, 0, x4), (5, 0, x5)] [(2, 16)] A P) : rh1 wh YX1_black (3 + 1) 0 [(0, 2, 0), (1, 0, x1), (2, 0, x2), (3, 0, 0), (4, 0, x4), (5, 0, x5)] [] A P := by
  refine rh1.up (rX1_blacka_0 hh _ _ _ _ _ _ ?_)
  refine ⟨fun _ => ⟨by omega, by omega⟩, fun z => ?_, fun _ => rh1.s (vX1_black_25 hh) ?_⟩
  · rcases z with z | z
    · exact absurd pg.1 z
    · exact absurd pg.2 z
  refine rh1.up (rX1_blacka_26 hh _ _ _ _ _ _ _ _ _ ?_)
  refine ⟨⟨by omega, by omega⟩, fun _ => rh1.s (vX1_blacka_40 hh) ?_, fun z => absurd ⟨by decide, by decide⟩ z⟩
  refine rh1.up (rX1_blacka_41 hh _ _ _ _ _ _ ?_)
  refine rh1.s (vX1_blacka_45 hh T (LE0 rfl)) ?_
  refine rh1.up (rX1_blacka_48 hh _ _ _ _ _ _ _ ?_)
  exact ⟨fun z => h1 z, fun z => rh1.s (vX1_blacka_59 hh) (h2 z)⟩
theorem h_preb (hh : rh_hs wh) {A : rhM} {x1 x2 x4 x5 tv : Int} (pg : ((0 ≤ x1 ∧ x1 ≤ 7) ∧ A (251 + 39 * x1) 3 ≠ 0) ∧ (0 ≤ x2 ∧ x2 ≤ 7)) (T : eC wh YX10_takes 3 [(2, 19), (0, x4), (0, x5)] A tv A) (P : Int → rhM → Prop) (h1 : tv = 0 → P (-102) A) (h2 : tv ≠ 0 → rh1 wh YX1_black (3 + 1) 60 [(0, 2, 0), (1, 0, x1), (2, 0, x2), (4, 0, x4), (5, 0, x5)] [(2, 19)] A P) : rh1 wh YX1_black (3 + 1) 0 [(0, 2, 0), (1, 0, x1), (2, 0, x2), (3, 0, 1), (4, 0, x4), (5, 0, x5)] [] A P := by
  refine rh1.up (rX1_blackb_0 hh _ _ _ _ _ _ ?_)
  refine ⟨fun _ => ⟨by omega, by omega⟩, fun z => ?_, fun _ => rh1.s (vX1_black_25 hh) ?_⟩
  · rcases z with z | z
    · exact absurd pg.1 z
    · exact absurd pg.2 z
  refine rh1.up (rX1_blackb_26 hh _ _ _ _ _ _ _ _ _ ?_)
  refine ⟨⟨by omega, by omega⟩, fun _ => rh1.s (vX1_blackb_40 hh) ?_, fun z => absurd ⟨by decide, by decide⟩ z⟩
  refine rh1.up (rX1_blackb_41 hh _ _ _ _ _ _ ?_)
  refine rh1.s (vX1_blackb_45 hh T (LE0 rfl)) ?_
  refine rh1.up (rX1_blackb_48 hh _ _ _ _ _ _ _ ?_)
  exact ⟨fun z => h1 z, fun z => rh1.s (vX1_blackb_59 hh) (h2 z)⟩
theorem h_prec (hh : rh_hs wh) {A : rhM} {x1 x2 x4 x5 tv : Int} (pg : ((0 ≤ x1 ∧ x1 ≤ 7) ∧ A (251 + 39 * x1) 3 ≠ 0) ∧ (0 ≤ x2 ∧ x2 ≤ 7)) (T : eC wh YX11_takes 3 [(2, 20), (0, x4), (0, x5)] A tv A) (P : Int → rhM → Prop) (h1 : tv = 0 → P (-102) A) (h2 : tv ≠ 0 → rh1 wh YX1_black (3 + 1) 60 [(0, 2, 0), (1, 0, x1), (2, 0, x2), (4, 0, x4), (5, 0, x5)] [(2, 20)] A P) : rh1 wh YX1_black (3 + 1) 0 [(0, 2, 0), (1, 0, x1), (2, 0, x2), (3, 0, 2), (4, 0, x4), (5, 0, x5)] [] A P := by
  refine rh1.up (rX1_blackc_0 hh _ _ _ _ _ _ ?_)
  refine ⟨fun _ => ⟨by omega, by omega⟩, fun z => ?_, fun _ => rh1.s (vX1_black_25 hh) ?_⟩
  · rcases z with z | z
    · exact absurd pg.1 z
    · exact absurd pg.2 z
  refine rh1.up (rX1_blackc_26 hh _ _ _ _ _ _ _ _ _ ?_)
  refine ⟨⟨by omega, by omega⟩, fun _ => rh1.s (vX1_blackc_40 hh) ?_, fun z => absurd ⟨by decide, by decide⟩ z⟩
  refine rh1.up (rX1_blackc_41 hh _ _ _ _ _ _ ?_)
  refine rh1.s (vX1_blackc_45 hh T (LE0 rfl)) ?_
  refine rh1.up (rX1_blackc_48 hh _ _ _ _ _ _ _ ?_)
  exact ⟨fun z => h1 z, fun z => rh1.s (vX1_blackc_59 hh) (h2 z)⟩
end BlackP
