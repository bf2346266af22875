/-! ===== LAYER 2: candidate ===== -/
section CandP
variable {wh wm : rhW}
theorem ndf_l {fc lt D : Int → Int} {face : Int} : ∀ k : Nat, ∀ c, ndd fc lt D face k c ≠ -1 → (0 ≤ ndf fc lt D face k c ∧ ndf fc lt D face k c < k) ∧ lt (ndf fc lt D face k c) = c ∧ fc (ndf fc lt D face k c) = face
  | 0 => fun c h => absurd rfl h
  | k + 1 => fun c h => by
    have ih := ndf_l (fc := fc) (lt := lt) (D := D) (face := face) k c
    simp only [ndd] at h
    simp only [ndf]
    by_cases q : fc k = face ∧ (ndd fc lt D face k (lt k) = -1 ∨ D k < ndd fc lt D face k (lt k))
    · rw [if_pos q] at h ⊢
      unfold upz at h ⊢
      by_cases y : c = lt k
      · rw [if_pos y]; exact ⟨⟨by omega, by omega⟩, y.symm, q.1⟩
      · rw [if_neg y] at h ⊢
        have := ih h
        exact ⟨⟨by omega, by omega⟩, this.2⟩
    · rw [if_neg q] at h ⊢
      have := ih h
      exact ⟨⟨by omega, by omega⟩, this.2⟩
/-- candidates on both sides -/
def CdR (M1 M2 : rhM) (n : Int) : Prop := M1 41 17 = M2 0 119 ∧ (0 ≤ M2 0 119 ∧ M2 0 119 ≤ 3) ∧ ∀ i, 0 ≤ i → i < M2 0 119 → (M1 58 i = M2 86 i ∧ 33 ≤ M2 86 i ∧ M2 86 i ≤ 126) ∧ (M1 59 i = M2 87 i ∧ 0 ≤ M2 87 i ∧ M2 87 i ≤ 256) ∧ (M1 60 i = M2 85 (M2 86 i) ∧ 0 ≤ M2 85 (M2 86 i) ∧ M2 85 (M2 86 i) < n)
abbrev Fch (c j : Int) : Prop := (c = 41 ∧ j = 17) ∨ (58 ≤ c ∧ c ≤ 62)
abbrev Gch (c j : Int) : Prop := (c = 0 ∧ j = 119) ∨ (84 ≤ c ∧ c ≤ 87)
theorem c_choose (hh : rh_hs wh) (hm : rh_ms wm) {face : Int} (hf : 0 ≤ face ∧ face < 4) {Mh Mm : rhM} (R : Rfm Mh Mm) (T : Rtr Mh Mm) (hF : ∀ k, 0 ≤ k → k < 19 → Mh 31 k = Mm 62 k ∧ 0 ≤ Mm 62 k ∧ Mm 62 k ≤ 6144) :
    rC2 wh YX17_choose 1 [(2, 41), (0, face), (2, 31)] Mh wm YX32_findCandidates 1 [(2, 0), (0, face)] Mm (fun _ M1 _ M2 => frx Fch Mh M1 ∧ frx Gch Mm M2 ∧ CdR M1 M2 (Mm 0 89)) := by
  have hb : rh_bl wh 6 31 19 := rh_bl.of (o := 31) (m := 19) hh (by decide +kernel)
  obtain ⟨r1, r2, r3⟩ := R
  refine rC2.of (by decide) (LE0 rfl) (by decide) (LE0 rfl) ?_
  have fat1 : Fat (Mm 0 89) (Mm 63) (Mm 64) (Mm 68) (Mm 62) (Mh 41) (Mh 42) (Mh 43) (Mh 47) (Mh 31) (Mh 41 0) := ⟨r1, r2, fun f f0 f1 => by
      obtain ⟨a1, a2, -⟩ := r3 f f0 f1
      exact ⟨a1.1, a2.1, a2.2⟩, fun f k f0 f1 k0 k1 => by
      obtain ⟨-, -, -, -, -, a6, -⟩ := r3 f f0 f1
      have := a6 k k0 k1
      exact ⟨this.1, this.2.1, by omega⟩, hF⟩
  have fat2 : Fat (Mm 0 89) (Mm 63) (Mm 64) (Mm 68) (Mm 62) (Mm 0) (Mm 63) (Mm 64) (Mm 68) (Mm 62) (Mm 0 89) := ⟨rfl, r2, fun f f0 f1 => by
      obtain ⟨a1, a2, -⟩ := r3 f f0 f1
      exact ⟨rfl, rfl, a2.2⟩, fun f k f0 f1 k0 k1 => by
      obtain ⟨-, -, -, -, -, a6, -⟩ := r3 f f0 f1
      have := a6 k k0 k1
      exact ⟨rfl, this.2.1, by omega⟩, fun k k0 k1 => ⟨rfl, (hF k k0 k1).2⟩⟩
  obtain ⟨A, EA, fA, hA⟩ := h_near hh (face := face) Mh fat1
  obtain ⟨B, EB, fB, hB⟩ := m_near hm (face := face) Mm fat2
  have hD : ∀ f : Int, 0 ≤ f → f < (Mm 0 89).toNat → 0 ≤ (fun f => dst (Mm 62) (Mm 68) f 19) f ∧ (fun f => dst (Mm 62) (Mm 68) f 19) f ≤ 2000000000 := fun f f0 f1 => by
    have := dst_b (F := Mm 62) (G := Mm 68) (f := f) (fun k k0 k1 => (hF k k0 k1).2) (fun k k0 k1 => by
      obtain ⟨-, -, -, -, -, a6, -⟩ := r3 f f0 (by omega)
      have := a6 k k0 k1
      exact ⟨this.2.1, by omega⟩) 19 (by omega)
    show 0 ≤ dst (Mm 62) (Mm 68) f 19 ∧ dst (Mm 62) (Mm 68) f 19 ≤ 2000000000
    omega
  have nb := ndd_b (fc := Mm 63) (lt := Mm 64) (face := face) _ hD
  have nl := ndd_l (fc := Mm 63) (lt := Mm 64) (D := fun f => dst (Mm 62) (Mm 68) f 19) (face := face) (Mm 0 89).toNat (fun f f0 f1 => by
    obtain ⟨-, a2, -⟩ := r3 f f0 (by omega)
    exact a2.2)
  have nf := ndf_l (fc := Mm 63) (lt := Mm 64) (D := fun f => dst (Mm 62) (Mm 68) f 19) (face := face) (Mm 0 89).toNat
  generalize hnd : ndd (Mm 63) (Mm 64) (fun f => dst (Mm 62) (Mm 68) f 19) face (Mm 0 89).toNat = nd at *
  generalize hnf : ndf (Mm 63) (Mm 64) (fun f => dst (Mm 62) (Mm 68) f 19) face (Mm 0 89).toNat = nfm at *
  refine rh2.sl EA (rh2.sr EB ?_)
  obtain ⟨t1, t2, t3⟩ := T face hf.1 hf.2
  have e49 : A 49 face = Mm 75 face := by rw [fA _ _ (by omega), t1]
  have e75 : B 75 face = Mm 75 face := fB _ _ (by omega)
  -- what follows, when tv is known
  have fin : ∀ tv, rh2 wh YX17_choose 1 135 [(0, 2, 41), (3, 0, tv), (4, 0, 33)] [] (rh_set A 41 17 0) wm YX32_findCandidates 1 121 [(0, 2, 0), (2, 0, tv), (3, 0, 0)] [] B (fun _ M1 _ M2 => frx Fch Mh M1 ∧ frx Gch Mm M2 ∧ CdR M1 M2 (Mm 0 89)) := by
    intro tv
    have hA' : ∀ c, 0 ≤ c → c < 128 → rh_set A 41 17 0 61 c = nd c ∧ (nd c ≠ -1 → rh_set A 41 17 0 62 c = nfm c) := fun c c0 c1 => by
      rw [rh_set_a (by omega), rh_set_a (by omega)]; exact hA c c0 c1
    obtain ⟨q1, M1, E1, f1, C1⟩ := h_sel hh (tv := tv) (nd := nd) (nf := nfm) (rh_set A 41 17 0) (fun c => (nb c).1) nl hA' (rh_set_s _ _ _ _)
    obtain ⟨q2, M2, E2, f2, C2⟩ := m_sel hm (tv := tv) (nd := nd) B (fun c => (nb c).1) (fun c c0 c1 => (hB c c0 c1).1)
    have FA : frx Fch Mh (rh_set A 41 17 0) := (fA.w (fun c j h => .inr (by omega))).st (.inl ⟨rfl, rfl⟩)
    refine ⟨q1, M1, q2, M2, E1, E2, FA.tr (f1.w (fun c j h => ?_)), (fB.w (fun c j h => .inr (by omega))).tr (f2.w (fun c j h => ?_)), ?_⟩
    · rcases h with h | h
      · exact .inl h
      · exact .inr (by omega)
    · rcases h with h | h
      · exact .inl h
      · exact .inr (by omega)
    · have e85 : M2 85 = B 85 := f2.cell (fun j => (by omega))
      have rng : ∀ e, (e = -1 ∨ (0 ≤ e ∧ e < 128 ∧ kst nd tv e ≠ -1)) → e ≠ -1 → (33 ≤ e ∧ e ≤ 126) ∧ (0 ≤ kst nd tv e ∧ kst nd tv e ≤ 256) ∧ (nfm e = B 85 e ∧ 0 ≤ B 85 e ∧ B 85 e < Mm 0 89) := by
        intro e he hz
        rcases he with he | he
        · exact absurd he hz
        · have kn := (kst_n (tv := tv) (nb e).1).mp he.2.2
          have kb := kst_b (tv := tv) (nb e).1
          have hl : 33 ≤ e ∧ e ≤ 126 := by
            by_cases z : 33 ≤ e ∧ e ≤ 126
            · exact z
            · exact absurd (nl e z) kn
          have b2 := (hB e he.1 he.2.1).2 kn
          have n2 := (nf e kn).1
          refine ⟨hl, ⟨by have := he.2.2; omega, kb.2⟩, b2.symm, ?_⟩
          rw [b2]; omega
      have b0 := nxt_b (al := fun c => kst nd tv c ≠ -1) (T := kst nd tv) (L := fun _ => 0) 128
      have b1 := nxt_b (al := fun c => kst nd tv c ≠ -1 ∧ c ≠ ee0 (kst nd tv) 128) (T := kst nd tv) (L := fun _ => 0) 128
      have b2 := nxt_b (al := fun c => kst nd tv c ≠ -1 ∧ c ≠ ee0 (kst nd tv) 128 ∧ c ≠ ee1 (kst nd tv) 128) (T := kst nd tv) (L := fun _ => 0) 128
      have g0 := rng (ee0 (kst nd tv) 128) (b0.elim .inl (fun h => .inr ⟨h.1, h.2.1, h.2.2⟩))
      have g1 := rng (ee1 (kst nd tv) 128) (b1.elim .inl (fun h => .inr ⟨h.1, h.2.1, h.2.2.1⟩))
      have g2 := rng (ee2 (kst nd tv) 128) (b2.elim .inl (fun h => .inr ⟨h.1, h.2.1, h.2.2.1⟩))
      obtain ⟨o1, o2, -, -⟩ := ee_ord (K := kst nd tv) (N := 128)
      clear b0 b1 b2 rng
      generalize ee0 (kst nd tv) 128 = e0 at *
      generalize ee1 (kst nd tv) 128 = e1 at *
      generalize ee2 (kst nd tv) 128 = e2 at *
      obtain ⟨c1, c2, c3, c4⟩ := C1
      obtain ⟨d1, d2, d3, d4⟩ := C2
      refine ⟨by rw [c1, d1], by rw [d1]; split; omega; split; omega; split <;> omega, fun i i0 i1 => ?_⟩
      rw [d1] at i1
      rw [e85]
      have z0 : e0 ≠ -1 := fun z => by rw [if_pos z] at i1; omega
      rw [if_neg z0] at i1
      by_cases q0 : i = 0
      · obtain ⟨x1, x2, x3⟩ := c2 z0
        obtain ⟨y1, y2⟩ := d2 z0
        obtain ⟨w1, w2, w3, w4⟩ := g0 z0
        rw [q0, x1, x2, x3, y1, y2]
        exact ⟨⟨rfl, w1⟩, ⟨rfl, w2⟩, w3, w4⟩
      · have z1 : e1 ≠ -1 := fun z => by rw [if_pos z] at i1; omega
        rw [if_neg z1] at i1
        by_cases q1 : i = 1
        · obtain ⟨x1, x2, x3⟩ := c3 z1
          obtain ⟨y1, y2⟩ := d3 z1
          obtain ⟨w1, w2, w3, w4⟩ := g1 z1
          rw [q1, x1, x2, x3, y1, y2]
          exact ⟨⟨rfl, w1⟩, ⟨rfl, w2⟩, w3, w4⟩
        · have z2 : e2 ≠ -1 := fun z => by rw [if_pos z] at i1; omega
          rw [if_neg z2] at i1
          obtain ⟨x1, x2, x3⟩ := c4 z2
          obtain ⟨y1, y2⟩ := d4 z2
          obtain ⟨w1, w2, w3, w4⟩ := g2 z2
          rw [show i = 2 by omega, x1, x2, x3, y1, y2]
          exact ⟨⟨rfl, w1⟩, ⟨rfl, w2⟩, w3, w4⟩
  refine rh2.l (rX17_choose_26 hh _ _ _ _ _ hb ?_)
  rw [fA 41 0 (by omega), r1, e49]
  refine ⟨fun z => by omega, fun _ => ⟨hf, fun c => ?_, fun c => ?_⟩⟩
  · have TA : Rtr A B := fun f f0 f1 => by
      obtain ⟨u1, u2, u3⟩ := T f f0 f1
      rw [fA 49 _ (by omega), fA.cell (a := 50) (fun j => (by omega)), fA.cell (a := 51) (fun j => (by omega)), fA.cell (a := 52) (fun j => (by omega)), fA.cell (a := 53) (fun j => (by omega)), fA.cell (a := 54) (fun j => (by omega)), fB.cell (a := 75) (fun j => (by omega)), fB.cell (a := 76) (fun j => (by omega)), fB.cell (a := 77) (fun j => (by omega)), fB.cell (a := 78) (fun j => (by omega)), fB.cell (a := 79) (fun j => (by omega)), fB.cell (a := 80) (fun j => (by omega))]
      exact ⟨u1, u2, u3⟩
    obtain ⟨tv, K1, K2, -⟩ := c_told hh hm hf TA (by rw [e75]; exact c) (fun k k0 k1 => by rw [fA _ _ (by omega), fB _ _ (by omega)]; exact (hF k k0 k1).1)
    refine rh2.sl (vX17_choose_118 hh K1 (LE0 rfl)) ?_
    refine rh2.l (rX17_choose_121 hh _ _ ?_)
    refine rh2.r (rX32_findCandidates_24 hm _ _ _ ?_)
    rw [fB 0 89 (by omega), e75]
    refine ⟨fun z => by omega, fun _ => ⟨hf, fun _ => ?_, fun z => absurd c z⟩⟩
    refine rh2.sr (vX32_findCandidates_111 hm K2 (LE0 rfl)) ?_
    refine rh2.r (rX32_findCandidates_114 hm _ _ ?_)
    exact fin tv
  · refine rh2.r (rX32_findCandidates_24 hm _ _ _ ?_)
    rw [fB 0 89 (by omega), e75]
    refine ⟨fun z => by omega, fun _ => ⟨hf, fun z => absurd z c, fun _ => fin (-1)⟩⟩
/-- what candidate leaves -/
def Pcan (Mh Mm M' M2' : rhM) : Prop := frx (fun c j => (25 ≤ c ∧ c ≤ 32) ∨ (c = 41 ∧ j = 17) ∨ (58 ≤ c ∧ c ≤ 62)) Mh M' ∧ frx (fun c j => (c = 0 ∧ (j = 0 ∨ (17 ≤ j ∧ j ≤ 88) ∨ (90 ≤ j ∧ j ≤ 119))) ∨ (9 ≤ c ∧ c ≤ 11) ∨ (15 ≤ c ∧ c ≤ 22) ∨ (56 ≤ c ∧ c ≤ 62) ∨ (84 ≤ c ∧ c ≤ 87)) Mm M2'
theorem Pwd.can {Mh Mm M' M2' : rhM} (P : Pwd Mh Mm M' M2') : Pcan Mh Mm M' M2' := by
  refine ⟨P.1.w (fun c j h => ?_), P.2.w (fun c j h => ?_)⟩
  · unfold Fpr at h; omega
  · unfold Gpr Giw Gcl at h; omega
theorem op_candidate (hh : rh_hs wh) (hm : rh_ms wm) {Mh Mm : rhM} (R : Rpg Mh Mm) (S : Rsr Mh) (Y : Rly Mh Mm) (F : Rfm Mh Mm) (T : Rtr Mh Mm) (x1 x2 x3 x4 x5 x6 x7 : Int) : rC2 wh YX1_candidate 5 [(2, 0), (0, x1), (0, x2), (0, x3), (0, x4), (0, x5), (0, x6), (0, x7)] Mh wm YX32_candidate 5 [(2, 0), (0, x1), (0, x2), (0, x3), (0, x4), (0, x5), (0, x6), (0, x7)] Mm (fun r M' r2 M2' => r = r2 ∧ Pcan Mh Mm M' M2') := by
  refine rC2.of (by decide) (LE0 rfl) (by decide) (LE0 rfl) ?_
  obtain ⟨r, Ma, r2, Na, E1, E2, e1, e2, e3, hr, h0⟩ := c_laidWord hh hm R Y x1 x2
  rw [e2] at E1
  rw [e3] at E2
  subst e1
  clear e2 e3 Ma Na
  refine rh2.l (rX1_candidate_0 hh _ _ _ _ _ _ _ _ ?_)
  refine rh2.r (rX32_candidate_0 hm _ _ _ _ _ _ _ _ ?_)
  refine rh2.sl (vX1_candidate_3 hh E1 (LE0 rfl)) (rh2.sr (vX32_candidate_3 hm E2 (LE0 rfl)) ?_)
  refine rh2.l (rX1_candidate_6 hh _ _ _ _ _ _ _ _ _ ?_)
  refine ⟨fun z => ?_, fun z => ⟨?_, ?_⟩⟩
  · refine rh1.of (rX32_candidate_6 hm _ _ _ _ _ _ _ _ _ ?_)
    exact ⟨fun _ => ⟨rfl, Pwd.mk0.can⟩, fun y => by omega⟩
  · have := (h0 (by omega)).1; exact this
  · have z0 : r = 0 := (by omega)
    obtain ⟨hp, hW, h23, h4, LL, LW, hw⟩ := h0 z0
    have hw80 : x2 < 80 := by
      obtain ⟨tot, -, W, -⟩ := LW
      have := W.2.1
      omega
    obtain ⟨r1, M1, r2, M2, K1, K2, f1, f2, P⟩ := c_prep0 hh hm R S hp hW h4 LL LW hw
    obtain ⟨q1, q2, q3, q4, q5, q6, q7, q8, -⟩ := (R x1 hp.1 hp.2).1
    refine rh2.r (rX32_candidate_6 hm _ _ _ _ _ _ _ _ _ ?_)
    refine ⟨fun y => by omega, fun _ => ?_⟩
    refine rh2.sl (vX1_candidate_27 hh K1 (LE0 rfl)) (rh2.sr (vX32_candidate_19 hm K2 (LE0 rfl)) ?_)
    refine rh2.l (rX1_candidate_30 hh _ _ _ _ _ _ ?_)
    refine rh2.r (rX32_candidate_22 hm _ _ _ _ _ _ ?_)
    have hx := hs_pg hh hp.1 hp.2
    have hy : rh_bl wh 1 (251 + 39 * x1 + 9) 0 := by
      have := hs_ly hh hp.1 hp.2
      rwa [show 260 + 39 * x1 = 251 + 39 * x1 + 9 by omega] at this
    obtain ⟨r3, M3, r4, M4, K3, K4, e34, r01, f3, f4, PT⟩ := c_part hh hm hx hy (by omega) P ⟨hw.1, hw80⟩ (show 0 ≤ Mm 4 x1 by omega) q4 q6 q5 q8 x3 x4
    refine rh2.sl (vX1_candidate_37 hh K3 (LE0 rfl)) (rh2.sr (vX32_candidate_26 hm K4 (LE0 rfl)) ?_)
    rw [← e34]
    have P2 : Prp M3 M4 (251 + 39 * x1) x2 (Mm 4 x1) (Mm 5 x1) := P.fx (by omega) (f3.w (fun c j h => by omega)) (f4.w (fun c j h => by omega))
    have FF : frx (fun c j => Fpr c j ∨ c = 25 ∨ c = 31 ∨ c = 32) Mh M3 := (f1.w (fun _ _ h => .inl h)).tr (f3.w (fun c j h => .inr (.inl h.1)))
    have GG : frx (fun c j => (c = 0 ∧ (j = 0 ∨ (84 ≤ j ∧ j ≤ 87))) ∨ Gpr c j ∨ c = 62) Mm M4 := (Pwd.mk2 f1 f2).2.tr (f4.w (fun c j h => .inl ⟨h.1, .inr h.2⟩))
    have PW : Pwd Mh Mm M3 M4 := ⟨FF, GG⟩
    refine rh2.l (rX1_candidate_40 hh _ _ _ _ _ ?_)
    refine ⟨fun y => ?_, fun y => ⟨fun d => ?_, fun d => ?_⟩⟩
    · refine rh1.of (rX32_candidate_29 hm _ _ _ _ _ ?_)
      exact ⟨fun _ => ⟨rfl, PW.can⟩, fun u => absurd y u⟩
    · refine rh1.of (rX32_candidate_29 hm _ _ _ _ _ ?_)
      exact ⟨fun u => absurd u y, fun _ => ⟨fun _ => ⟨rfl, PW.can⟩, fun u => absurd d u⟩⟩
    · refine rh2.r (rX32_candidate_29 hm _ _ _ _ _ ?_)
      refine ⟨fun u => absurd u y, fun _ => ⟨fun u => absurd u d, fun _ => ?_⟩⟩
      obtain ⟨⟨t1, t2, t3, t4, t5, t6, t7, t8⟩, -⟩ := PT y
      obtain ⟨p1, p2, -, p4, p5, -⟩ := P2
      obtain ⟨r5, M5, K5, f5, v5⟩ := c_describe hh (l := M4 0 84) (t := M4 0 85) (r := M4 0 86) (b := M4 0 87) (lh := M4 0 82) (lb := M4 0 83) hx (by omega) M3 p1 (show 0 ≤ Mm 4 x1 by omega) q4 q6 q8 t1 t2 t3 t4 t5 t6 p4.1 p5.1 p4.2 ⟨t7.1, p5.2⟩
      obtain ⟨r6, M6, K6, f6, v6⟩ := c_findFeatures hm (l := M4 0 84) (t := M4 0 85) (r := M4 0 86) (b := M4 0 87) (lh := M4 0 82) (lb := M4 0 83) M4 p2.1 (show 0 ≤ Mm 4 x1 by omega) q4 q6 q8 rfl rfl rfl rfl t5 t6 rfl rfl p4.2 ⟨t7.1, p5.2⟩
      refine rh2.sl (vX1_candidate_85 hh K5 (LE0 rfl)) (rh2.sr (vX32_candidate_76 hm K6 (LE0 rfl)) ?_)
      refine rh2.l (rX1_candidate_88 hh _ _ _ _ ?_)
      refine rh2.r (rX32_candidate_79 hm _ _ _ _ ?_)
      have PW2 : Pwd Mh Mm M5 M6 := ⟨FF.tr (f5.w (fun c j h => .inr (.inr h))), GG.tr (f6.w (fun c j h => .inr (.inr h)))⟩
      have F6 := PW2.fm F
      have T6 : Rtr M5 M6 := fun f f0 f1 => by
        obtain ⟨u1, u2, u3⟩ := T f f0 f1
        have ch : ∀ c : Int, 49 ≤ c → c ≤ 54 → M5 c = Mh c := fun c a b => PW2.1.cell (fun j => by unfold Fpr; omega)
        have cm : ∀ c : Int, 75 ≤ c → c ≤ 80 → M6 c = Mm c := fun c a b => PW2.2.cell (fun j => by unfold Gpr Giw Gcl; omega)
        rw [ch 49 (by omega) (by omega), ch 50 (by omega) (by omega), ch 51 (by omega) (by omega), ch 52 (by omega) (by omega), ch 53 (by omega) (by omega), ch 54 (by omega) (by omega), cm 75 (by omega) (by omega), cm 76 (by omega) (by omega), cm 77 (by omega) (by omega), cm 78 (by omega) (by omega), cm 79 (by omega) (by omega), cm 80 (by omega) (by omega)]
        exact ⟨u1, u2, u3⟩
      obtain ⟨r7, M7, r8, M8, K7, K8, f7, f8, C⟩ := c_choose hh hm (face := x5) ⟨by omega, by omega⟩ F6 T6 (fun k k0 k1 => by
        rw [v5 k k0 k1, v6 k k0 k1]
        exact ⟨rfl, fea_b (by omega) (by omega) (by omega) (by omega) (by omega) (by omega)⟩)
      refine rh2.sl (vX1_candidate_101 hh K7 (LE0 rfl)) (rh2.sr (vX32_candidate_82 hm K8 (LE0 rfl)) ?_)
      obtain ⟨c1, c2, c3⟩ := C
      have PC : Pcan Mh Mm M7 M8 := ⟨PW2.can.1.tr (f7.w (fun c j h => by unfold Fch at h; omega)), PW2.can.2.tr (f8.w (fun c j h => by unfold Gch at h; omega))⟩
      refine rh2.l (rX1_candidate_104 hh _ _ _ ?_)
      rw [c1]
      refine ⟨fun u => ?_, fun u => ⟨fun _ => ⟨by omega, by omega⟩, fun _ => ⟨by omega, by omega⟩, ?_⟩⟩
      · refine rh1.of (rX32_candidate_85 hm _ _ _ ?_)
        refine ⟨fun _ _ => ⟨by omega, by omega⟩, fun _ _ => ⟨by omega, by omega⟩, ?_, PC⟩
        rw [rh_if_t u]
      · refine rh1.of (rX32_candidate_85 hm _ _ _ ?_)
        refine ⟨fun _ _ => ⟨by omega, by omega⟩, fun _ _ => ⟨by omega, by omega⟩, ?_, PC⟩
        obtain ⟨k1, k2, -⟩ := c3 x6 (by omega) (by omega)
        rw [rh_if_f u, k1.1, k2.1]
end CandP
