/-! ===== LAYER 2: outline ===== -/
section Outline
variable {wh wm : rhW}
/-- pages as they were, but for what the house remembers of one page -/
def Kept (Mh Mm M' M2' : rhM) : Prop := (∃ p : Int, (0 ≤ p ∧ p < 8) ∧ frx (fun a j => Hw a j ∨ (a = 251 + 39 * p ∧ (j = 4 ∨ j = 6)) ∨ (251 + 39 * p + 2 ≤ a ∧ a ≤ 251 + 39 * p + 8)) Mh M') ∧ Rsr M' ∧ frx Gw Mm M2'
theorem c_walk2 {Mh Mm M2 : rhM} {x p i : Int} (R : Rp Mh Mm x p) (hW0 : 0 < Mm 4 p) (S : Srch Mh x) (P : PcM M2 (Mm 4 p) (Mm 5 p) (mcol Mm p)) (hi : 0 ≤ i ∧ i < M2 0 31) : ∃ (n : Nat) (g : Nat → w3), Wlk (pcH Mh x (Mm 4 p) (Mm 5 p) i) n g (Mh (x + 3) i % Mm 4 p, Mh (x + 3) i / Mm 4 p, 0) ∧ 0 ≤ Mh (x + 3) i ∧ Mh (x + 3) i = M2 22 i ∧ ∀ u v, pcH Mh x (Mm 4 p) (Mm 5 p) i u v ↔ (0 ≤ u ∧ u < Mm 4 p) ∧ (0 ≤ v ∧ v < Mm 5 p) ∧ M2 9 (Mm 4 p * v + u) = i := by
  obtain ⟨q1, q2, q3, q4⟩ := SrPc R S P
  have q5 := (q4 i hi.1 hi.2).1
  obtain ⟨a1, a2, a3, a4, a5, a6, a7, a8, a9, a10⟩ := R
  obtain ⟨p1, p2, p3, p4, p5, p6⟩ := P
  obtain ⟨-, c2, -, -⟩ := p6 i hi.1 hi.2
  obtain ⟨⟨c3, c4⟩, c5, -⟩ := c2
  generalize Mm 4 p = W at *
  generalize Mm 5 p = H at *
  have hI : ∀ u v, pcH Mh x W H i u v ↔ (0 ≤ u ∧ u < W) ∧ (0 ≤ v ∧ v < H) ∧ M2 9 (W * v + u) = i := fun u v => by
    unfold pcH
    constructor
    · intro ⟨⟨y1, y2, y3, y4⟩, y5⟩
      have := ix_b y1 y2 y3 y4
      rw [q3 _ this] at y5
      refine ⟨⟨y1, y2⟩, ⟨y3, y4⟩, ?_⟩
      split at y5
      · exact y5
      · omega
    · intro ⟨⟨y1, y2⟩, ⟨y3, y4⟩, y5⟩
      have := ix_b y1 y2 y3 y4
      refine ⟨⟨y1, y2, y3, y4⟩, ?_⟩
      rw [q3 _ this, y5, if_pos hi.2]
  have db := dm_b hW0 c3.1 c3.2
  have dmk := dm (M2 22 i) W
  have hok : Wok (pcH Mh x W H i) (Mh (x + 3) i % W, Mh (x + 3) i / W, 0) := by
    rw [q5]
    refine ⟨(show (0 : Int) ≤ 0 ∧ (0 : Int) < 4 by decide), (?_ : Qc (pcH Mh x W H i) (M2 22 i % W) (M2 22 i / W) 0), fun (y : Qc (pcH Mh x W H i) (M2 22 i % W) (M2 22 i / W) (0 + 3)) => ?_⟩
    · rw [Qc.z (by decide), hI]
      refine ⟨db.1, db.2, ?_⟩
      rw [← dmk]; exact c4
    · rw [Qc.r (by decide), hI] at y
      obtain ⟨y1, y2, y3⟩ := y
      have b := ix_b y1.1 y1.2 y2.1 y2.2
      have := (c5 _ b y3).1
      have e : W * (M2 22 i / W - 1) = W * (M2 22 i / W) - W := by rw [Int.mul_sub, Int.mul_one]
      omega
  obtain ⟨n, g, hw⟩ := Wst.back (I := pcH Mh x W H i) (fun u v h => ⟨((hI u v).mp h).1, ((hI u v).mp h).2.1⟩) a4 a6 hok
  exact ⟨n, g, hw, by rw [q5]; exact c3.1, q5, hI⟩
theorem op_outline (hh : rh_hs wh) (hm : rh_ms wm) {Mh Mm : rhM} (R : Rpg Mh Mm) (S : Rsr Mh) (x1 x2 x3 : Int) : rC2 wh YX1_outline 6 [(2, 0), (0, x1), (0, x2), (0, x3)] Mh wm YX32_outline 3 [(2, 0), (0, x1), (0, x2), (0, x3)] Mm (fun r M' r2 M2' => r = r2 ∧ Kept Mh Mm M' M2') := by
  refine rC2.of (by decide) (LE0 rfl) (by decide) (LE0 rfl) ?_
  have e4 : rh_set Mm 0 0 0 4 x1 = Mm 4 x1 := rh_set_a (by decide)
  have e5 : rh_set Mm 0 0 0 5 x1 = Mm 5 x1 := rh_set_a (by decide)
  have f0 : frx Gw Mm (rh_set Mm 0 0 0) := frx.rf.st (by unfold Gw; omega)
  obtain ⟨r, M1, E1, h1, h2⟩ := c_isPiece hh R S x1 x2
  refine rh2.l (rX1_outline_0 hh _ _ _ _ ?_)
  refine rh2.sl (vX1_outline_3 hh E1 (LE0 rfl)) ?_
  by_cases c : (0 ≤ x1 ∧ x1 ≤ 7) ∧ 0 < Mm 4 x1
  · obtain ⟨er, f1, s4, S1, R1⟩ := h2 c
    clear h1 h2
    have hp : 0 ≤ x1 ∧ x1 < 8 := ⟨by omega, by omega⟩
    have hx1 := c.2
    have R1' := R1
    obtain ⟨a1, a2, a3, a4, a5, a6, a7, a8, a9, a10⟩ := R1'
    replace a9 := Hid.mk a9
    obtain ⟨r2, M2, E2, -, f2, -, P⟩ := c_findPieces hm hp (rh_set Mm 0 0 0) (W := Mm 4 x1) (H := Mm 5 x1) e4 e5 a3 a4 a6 a7 a8
    have hmc : mcol (rh_set Mm 0 0 0) x1 = mcol Mm x1 := by unfold mcol; rw [rh_set_n (by omega)]
    rw [hmc] at P
    have Q := SrPc R1 (S1 x1 hp.1 hp.2 s4) P
    have F1 : frx (fun a j => Hw a j ∨ (a = 251 + 39 * x1 ∧ (j = 4 ∨ j = 6)) ∨ (251 + 39 * x1 + 2 ≤ a ∧ a ≤ 251 + 39 * x1 + 8)) Mh M1 := f1.w (fun a j h => by unfold Fsr at h; unfold Hw; omega)
    have F2 : frx Gw Mm M2 := f0.tr (f2.w (fun a j h => by unfold Gw; omega))
    refine rh2.r (rX32_outline_0 hm _ _ _ _ ?_)
    rw [e4]
    refine ⟨fun _ => hp, fun d => absurd c d, fun _ => ?_⟩
    refine rh2.sr (vX32_outline_18 hm E2 (LE0 rfl)) ?_
    refine rh2.l (rX1_outline_6 hh _ _ _ _ _ ?_)
    rw [Q.1] at er
    refine ⟨fun z => ?_, fun z => ⟨hp, ?_⟩⟩
    · have hn : ¬ (0 ≤ x2 ∧ x2 ≤ M2 0 31 - 1) := fun y => by rw [rh_if_t y] at er; rw [er] at z; exact absurd z (by decide)
      refine rh1.of (rX32_outline_21 hm _ _ _ ?_)
      exact ⟨⟨by omega, by omega⟩, fun _ => ⟨rfl, ⟨x1, hp, F1⟩, S1, F2⟩, fun d => absurd hn d⟩
    · have hn : 0 ≤ x2 ∧ x2 ≤ M2 0 31 - 1 := by
        by_cases y : 0 ≤ x2 ∧ x2 ≤ M2 0 31 - 1
        · exact y
        · rw [rh_if_f y] at er; exact absurd er z
      obtain ⟨n, g, hw, hf0, hfe, hI⟩ := c_walk2 (i := x2) R1 hx1 (S1 x1 hp.1 hp.2 s4) P ⟨by omega, by omega⟩
      obtain ⟨r3, M3, E3, -, f3, t0, t1, t2⟩ := c_go hh (a := x3) (hs_pg hh hp.1 hp.2) (by omega) M1 a1 a2 hx1 a4 a6 a8 ⟨by omega, by omega⟩ hf0 hw
      rw [hfe] at hw hf0
      obtain ⟨r4, M4, E4, -, f4, u0, u1, u2⟩ := c_walkAround hm (a := rh_if (x3 < 0) (-1 : Int) x3) M2 P.1 P.2.1 hx1 a4 a6 a7 a8 ⟨by omega, by omega⟩ hf0 hI hw
      refine rh2.r (rX32_outline_21 hm _ _ _ ?_)
      refine ⟨⟨by omega, by omega⟩, fun d => absurd hn d, fun _ => ?_⟩
      refine rh2.sl (vX1_outline_24 hh E3 (LE0 rfl)) (rh2.sr (vX32_outline_51 hm E4 (LE0 rfl)) ?_)
      refine rh2.l (rX1_outline_27 hh _ ?_)
      refine rh1.of (rX32_outline_54 hm _ ?_)
      refine ⟨?_, ⟨x1, hp, F1.tr (f3.w (fun a j h => by unfold Hw; omega))⟩, S1.fx f3 (fun p a j p0 p1 h => ⟨(by omega), (by omega)⟩), F2.tr (f4.w (fun a j h => by unfold Gw; omega))⟩
      rw [t2, u2]
      exact askd_cg (fun m => by rw [rh_ifd]; split <;> omega) n
  · obtain ⟨er, eM⟩ := h1 c
    subst eM
    refine rh2.l (rX1_outline_6 hh _ _ _ _ _ ?_)
    refine ⟨fun _ => ?_, fun d => absurd er d⟩
    refine rh1.of (rX32_outline_0 hm _ _ _ _ ?_)
    rw [e4]
    exact ⟨fun z => ⟨by omega, by omega⟩, fun _ => ⟨rfl, ⟨0, by decide, frx.rf⟩, S, f0⟩, fun d => absurd c d⟩
end Outline
