/-! ===== LAYER 2: op learnText, joined ===== -/
section LearnTO
variable {wh wm : rhW}
theorem eG.less {w : rhW} {Y : rhY} {h pc : Nat} {L L' : rhL} {S : List rhA} {M : rhM} (hs : ∀ z ∈ L', z ∈ L) : eG w Y h pc L S M pc L' S M := fun _ _ K => rh_lessM hs K
def Flx (c j : Int) : Prop := Fpr c j ∨ Flw c j
def Glx (c j : Int) : Prop := Gpr c j ∨ Glw c j
theorem l_all (hh : rh_hs wh) (hm : rh_ms wm) {x1 p n g : Int} {v : Int → Int} {T : Int} (hp : 0 ≤ p ∧ p < 8) (hx1 : 0 ≤ x1 ∧ x1 ≤ 3) (hn : n ≤ 80) (hg : 0 ≤ g ∧ g ≤ 80) (hT : T ≤ 4096) (A0 B0 : rhM) (P0 : Pgd A0 B0 p) (e26 : B0 26 p = n) (c241 : ∀ k, 0 ≤ k → k < n → A0 241 k = B0 72 k ∧ B0 72 k = rcn A0 (251 + 39 * p) k (B0 4 p) (B0 5 p)) (c243 : ∀ k, 0 ≤ k → k < n → A0 243 k = B0 74 k ∧ (B0 74 k = -1 ∨ (0 ≤ B0 74 k ∧ B0 74 k < g))) (W : ∀ i, 0 ≤ i → i < g → Wsp A0 B0 v T i) (hv2 : ∀ k, 0 ≤ k → k < T → (33 ≤ v k ∧ v k ≤ 126) → A0 2 k = v k) (hv1 : ∀ k, 0 ≤ k → k < T → B0 1 k = v k) : ∀ (m : Nat) (i t : Int) (A B : rhM), i + m = n → 0 ≤ i → 0 ≤ t → t ≤ B 0 89 → Rfm A B → frx Flx A0 A → frx Glx B0 B →
    ∃ t' A' B', (∀ P : Int → rhM → Prop, P t' A' → rh1 wh YX1_learnText 6 141 [(0, 2, 0), (1, 0, x1), (2, 0, p), (4, 0, n), (5, 0, t), (6, 0, i)] [] A P) ∧ (∀ P : Int → rhM → Prop, P t' (rh_set B' 0 2 0) → rh1 wm YX32_learnText 5 104 [(0, 2, 0), (1, 0, x1), (2, 0, p), (5, 0, n), (6, 0, t), (7, 0, i)] [] B P) ∧ Rfm A' B' ∧ frx Flx A0 A' ∧ frx Glx B0 B' := by
  intro m
  induction m with
  | zero =>
    intro i t A B hi i0 t0 t1 F fA fB
    refine ⟨t, A, B, fun P HP => ?_, fun P HP => ?_, F, fA, fB⟩
    · refine rh1.of (rX1_learnText_141 hh _ _ _ _ _ _ ?_)
      exact ⟨fun z => by omega, fun _ => HP⟩
    · refine rh1.of (rX32_learnText_104 hm _ _ _ _ _ _ ?_)
      exact ⟨fun z => by omega, fun _ => HP⟩
  | succ m ih =>
    intro i t A B hi i0 t0 t1 F fA fB
    obtain ⟨u1, u2⟩ := c241 i i0 (by omega)
    obtain ⟨w1, w2⟩ := c243 i i0 (by omega)
    have nA : ∀ c j, (c < 25 ∨ (32 < c ∧ c < 41) ∨ 48 < c) → A c j = A0 c j := fun c j h => fA c j (by unfold Flx Fpr Flw; omega)
    have nB : ∀ c j, (c = 1 ∨ (23 ≤ c ∧ c ≤ 46) ∨ (3 ≤ c ∧ c ≤ 5) ∨ (70 ≤ c ∧ c ≤ 74)) → B c j = B0 c j := fun c j h => fB c j (by unfold Glx Gpr Giw Gcl Glw; omega)
    by_cases q : B0 74 i ≠ -1 ∧ B0 71 (B0 74 i) = B0 72 i
    · have hj := w2.resolve_left q.1
      obtain ⟨j, ej⟩ : ∃ j, j = B0 74 i := ⟨_, rfl⟩
      rw [← ej] at w1 q hj
      obtain ⟨s1, s2, s3, s4, s5, s6⟩ := W j hj.1 hj.2
      have hA : ∀ c : Int, 251 ≤ c → A c = A0 c := fun c c0 => funext (fun k => nA c k (by omega))
      have hB : ∀ c : Int, (3 ≤ c ∧ c ≤ 5) ∨ (23 ≤ c ∧ c ≤ 46) → B c = B0 c := fun c c0 => funext (fun k => nB c k (by omega))
      obtain ⟨q1, q2, q3, q4, q5⟩ := P0.fx hp.1 hA hB
      obtain ⟨r1, M1, r2, M2, K1, K2, f1, f2, PP, PR⟩ := c_prepareR hh hm hp q1 q2 q3 q4 q5 (w := i) (by rw [hB 26 (by omega), e26]; exact ⟨by omega, by omega⟩)
      have e4 : B 4 p = B0 4 p := by rw [hB 4 (by omega)]
      have e5 : B 5 p = B0 5 p := by rw [hB 5 (by omega)]
      rw [e4, e5] at PP PR
      have ec := rcn_e (M := A0) PP.1 PR (by rw [f1.cell (a := 251 + 39 * p + 2) (fun j => by unfold Fpr; omega)]; exact hA _ (by omega)) (by rw [f1.cell (a := 251 + 39 * p + 32) (fun j => by unfold Fpr; omega)]; exact hA _ (by omega))
      rw [← u2, ← q.2] at ec
      obtain ⟨z1, z2, z3, z4, z5, z6, z7, z8, -⟩ := P0.1
      have F1 : Rfm M1 M2 := F.fx (fun c c0 c1 => f1.cell (fun j => by unfold Fpr; omega)) (f2 0 89 (by unfold Gpr Giw Gcl; omega)) (fun c c0 c1 => f2.cell (fun j => by unfold Gpr Giw Gcl; omega))
      have gA : frx Flx A0 M1 := fA.tr (f1.w (fun c j h => .inl h))
      have gB : frx Glx B0 M2 := fB.tr (f2.w (fun c j h => .inl h))
      have n89 : M2 0 89 = B 0 89 := f2 0 89 (by unfold Gpr Giw Gcl; omega)
      obtain ⟨t', A', B', E1, E2, tb, F2, f3, f4⟩ := l_word hh hm (x1 := x1) (p := p) (n := n) (i := i) (j := j) (cnt := B0 71 j) (W := B0 4 p) (H := B0 5 p) (fr := B0 70 j) (v := v) hp hx1 z3 z4 z6 z5 z8 ⟨by omega, by omega⟩ ⟨by omega, by omega⟩ ⟨by omega, by omega⟩ s6 M1 M2 ec (by rw [gA 243 i (by unfold Flx Fpr Flw; omega)]; exact w1) (by rw [gA 239 j (by unfold Flx Fpr Flw; omega)]; exact s1) (by rw [gB 70 j (by unfold Glx Gpr Giw Gcl Glw; omega)]) (fun r r0 r1 => by rw [gA 2 _ (by unfold Flx Fpr Flw; omega)]; exact hv2 _ (by omega) (by omega) (s6 r r0 r1)) (fun r r0 r1 => by rw [gB 1 _ (by unfold Glx Gpr Giw Gcl Glw; omega)]; exact hv1 _ (by omega) (by omega)) (B0 71 j).toNat 0 t M1 M2 (by omega) (by omega) t0 (by rw [n89]; exact t1) PP PR F1 frx.rf frx.rf
      obtain ⟨t2, A2, B2, E3, E4, rr⟩ := ih (i + 1) t' A' B' (by omega) (by omega) tb.1 tb.2 F2 (gA.tr (f3.w (fun c j h => .inr h))) (gB.tr (f4.w (fun c j h => .inr h)))
      refine ⟨t2, A2, B2, fun P HP => ?_, fun P HP => ?_, rr⟩
      · refine rh1.of (rX1_learnText_141 hh _ _ _ _ _ _ ?_)
        rw [nA 243 i (by omega), w1, nA 240 j (by omega), s2, nA 241 i (by omega), u1]
        refine ⟨fun _ => ⟨⟨by omega, by omega⟩, fun _ => ⟨by omega, by omega⟩, fun _ => ⟨by omega, by omega⟩, fun _ => ⟨by omega, by omega⟩, fun _ => ⟨hp, ?_⟩, fun y => absurd q y⟩, fun y => by omega⟩
        refine rh1.s (vX1_learnText_193 hh K1 (LE0 rfl)) ?_
        refine rh1.of (rX1_learnText_196 hh _ _ _ _ _ _ ?_)
        exact rh1.s E1 (E3 P HP)
      · refine rh1.of (rX32_learnText_104 hm _ _ _ _ _ _ ?_)
        rw [nB 74 i (by omega), ← ej, nB 72 i (by omega), nB 71 j (by omega)]
        refine ⟨fun _ => ⟨⟨by omega, by omega⟩, fun _ => ⟨⟨by omega, by omega⟩, ⟨by omega, by omega⟩, fun y => absurd q.2.symm y, fun _ => ?_⟩, fun y => absurd q.1 y⟩, fun y => by omega⟩
        refine rh1.s (vX32_learnText_150 hm K2 (LE0 rfl)) ?_
        refine rh1.of (rX32_learnText_153 hm _ _ _ _ _ _ _ ?_)
        exact rh1.s E2 (E4 P HP)
    · obtain ⟨t2, A2, B2, E3, E4, rr⟩ := ih (i + 1) t A B (by omega) (by omega) t0 t1 F fA fB
      refine ⟨t2, A2, B2, fun P HP => ?_, fun P HP => ?_, rr⟩
      · refine rh1.of (rX1_learnText_141 hh _ _ _ _ _ _ ?_)
        rw [nA 243 i (by omega), w1, nA 240 _ (by omega), nA 241 i (by omega), u1]
        refine ⟨fun _ => ⟨⟨by omega, by omega⟩, fun _ => ⟨by omega, by omega⟩, fun y => ?_, fun _ => ⟨by omega, by omega⟩, fun y => ?_, fun _ => ⟨⟨by omega, by omega⟩, E3 P HP⟩⟩, fun y => by omega⟩
        · have := w2.resolve_left y; exact ⟨by omega, by omega⟩
        · have hj := w2.resolve_left y.1
          have := (W _ hj.1 hj.2).2.1
          exact absurd ⟨y.1, by rw [← this]; exact y.2⟩ q
      · refine rh1.of (rX32_learnText_104 hm _ _ _ _ _ _ ?_)
        rw [nB 74 i (by omega), nB 72 i (by omega), nB 71 _ (by omega)]
        refine ⟨fun _ => ⟨⟨by omega, by omega⟩, fun y => ⟨⟨by omega, by omega⟩, ?_, fun _ => ⟨⟨by omega, by omega⟩, E4 P HP⟩, fun z => absurd ⟨y, (Classical.byContradiction z).symm⟩ q⟩, fun _ => ⟨⟨by omega, by omega⟩, E4 P HP⟩⟩, fun y => by omega⟩
        have := w2.resolve_left y
        exact ⟨by omega, by omega⟩
def Flt1 (c j : Int) : Prop := (25 ≤ c ∧ c ≤ 32) ∨ (41 ≤ c ∧ c ≤ 48) ∨ (239 ≤ c ∧ c ≤ 243) ∨ (c = 0 ∧ j = 27) ∨ Ftp c j ∨ (c = 3 ∧ j = 6)
def Glt1 (c j : Int) : Prop := (c = 0 ∧ (j = 0 ∨ j = 2 ∨ (17 ≤ j ∧ j ≤ 19) ∨ j = 31 ∨ (78 ≤ j ∧ j ≤ 89) ∨ j = 99)) ∨ (9 ≤ c ∧ c ≤ 11) ∨ (15 ≤ c ∧ c ≤ 22) ∨ (56 ≤ c ∧ c ≤ 74)
theorem op_learnText (hh : rh_hs wh) (hm : rh_ms wm) {Mh Mm : rhM} (R : Rpg Mh Mm) (S : Rsr Mh) (Y : Rly Mh Mm) (F : Rfm Mh Mm) (T : Rtp Mh Mm) (x1 x2 : Int) : rC2 wh YX1_learnText 6 [(2, 0), (0, x1), (0, x2)] Mh wm YX32_learnText 5 [(2, 0), (0, x1), (0, x2)] Mm (fun r M' r2 M2' => r = r2 ∧ Rtp M' M2' ∧ Rfm M' M2' ∧ frx Flt1 Mh M' ∧ frx Glt1 Mm M2') := by
  refine rC2.of (by decide) (LE0 rfl) (by decide) (LE0 rfl) ?_
  obtain ⟨B0, hB0⟩ : ∃ B0, B0 = rh_set Mm 0 0 0 := ⟨_, rfl⟩
  have fB0 : frx (fun c j => c = 0 ∧ j = 0) Mm B0 := by rw [hB0]; exact frx.rf.st (by omega)
  have F0 : Rfm Mh B0 := F.fx (fun c _ _ => rfl) (fB0 0 89 (by omega)) (fun c c0 c1 => fB0.cell (fun j => (by omega)))
  have T0 : Rtp Mh B0 := by
    obtain ⟨t1, t2, t3, t4⟩ := T
    have e : B0 0 2 = Mm 0 2 := fB0 0 2 (by omega)
    refine ⟨by rw [e]; exact t1, by rw [e]; exact t2, by rw [e]; exact t3, fun k k0 k1 => ?_⟩
    rw [e] at k1
    rw [fB0 1 k (by omega)]
    exact t4 k k0 k1
  have keep : ∀ r : Int, r = r ∧ Rtp Mh B0 ∧ Rfm Mh B0 ∧ frx Flt1 Mh Mh ∧ frx Glt1 Mm B0 := fun r => ⟨rfl, T0, F0, frx.rf, fB0.w (fun c j h => by unfold Glt1; omega)⟩
  refine rh2.l (rX1_learnText_0 hh _ _ _ ?_)
  refine ⟨fun z => ⟨by omega, by omega⟩, fun z => ⟨by omega, by omega⟩, ?_⟩
  intro v hv
  by_cases a : (0 ≤ x2 ∧ x2 ≤ 7) ∧ Mh (251 + 39 * x2) 3 ≠ 0
  · have hp : 0 ≤ x2 ∧ x2 < 8 := ⟨by omega, by omega⟩
    have h4 : 0 < Mm 4 x2 := (R x2 hp.1 hp.2).2.mp a.2
    have mp : (0 ≤ x2 ∧ x2 ≤ 7) ∧ 0 < B0 4 x2 := ⟨a.1, by rw [fB0 4 x2 (by omega)]; exact h4⟩
    obtain ⟨l1, l2, l3⟩ := Y x2 hp.1 hp.2
    rw [rh_if_f (fun z => z a)] at hv
    by_cases b : Mm 23 x2 = 0
    · rw [rh_if_f (by rw [l1]; exact fun z => z b)] at hv
      refine ⟨fun _ => ?_, fun z => by omega⟩
      refine rh1.of (rX32_learnText_0 hm _ _ _ ?_)
      rw [← hB0]
      refine ⟨fun z => ⟨by omega, by omega⟩, fun z => ⟨by omega, by omega⟩, ?_⟩
      intro y hy
      rw [rh_if_f (fun z => z mp), rh_if_t (by rw [fB0 23 x2 (by omega)]; exact b)] at hy
      rw [hv, hy]
      exact ⟨fun _ => keep _, fun z => by omega⟩
    · rw [rh_if_t (by rw [l1]; exact b)] at hv
      obtain ⟨k1, k2, k3, k4⟩ := l3 b
      refine ⟨fun z => absurd hv z, fun _ => ⟨fun c => ?_, fun c => ?_⟩⟩
      · refine rh1.of (rX32_learnText_0 hm _ _ _ ?_)
        rw [← hB0]
        refine ⟨fun z => ⟨by omega, by omega⟩, fun z => ⟨by omega, by omega⟩, ?_⟩
        intro y hy
        rw [rh_if_f (fun z => z mp), rh_if_f (by rw [fB0 23 x2 (by omega)]; exact b)] at hy
        exact ⟨fun z => by omega, fun _ => ⟨fun _ => keep _, fun z => absurd c z⟩⟩
      · have hx1 : 0 ≤ x1 ∧ x1 ≤ 3 := ⟨by omega, by omega⟩
        obtain ⟨o, r, A1, B1, Ko, Km, fA1, fB1, cs⟩ := c_split hh hm T0
        have tb := T0.2.2.1
        refine rh2.r (rX32_learnText_0 hm _ _ _ ?_)
        rw [← hB0]
        refine ⟨fun z => ⟨by omega, by omega⟩, fun z => ⟨by omega, by omega⟩, ?_⟩
        intro y hy
        rw [rh_if_f (fun z => z mp), rh_if_f (by rw [fB0 23 x2 (by omega)]; exact b)] at hy
        refine ⟨fun z => by omega, fun _ => ⟨fun z => absurd z c, fun _ => ?_⟩⟩
        refine rh2.sr (vX32_learnText_32 hm Km (LE0 rfl)) ?_
        have gB1 : frx Glt1 Mm B1 := (fB0.w (fun c j h => by unfold Glt1; omega)).tr (fB1.w (fun c j h => by unfold Gsp at h; unfold Glt1; omega))
        have gA1 : frx Flt1 Mh A1 := fA1.w (fun c j h => by unfold Fsp at h; unfold Flt1 Ftp; omega)
        have F1 : Rfm A1 B1 := F0.fx (fun c c0 c1 => fA1.cell (fun j => by unfold Fsp; omega)) (fB1 0 89 (by unfold Gsp; omega)) (fun c c0 c1 => fB1.cell (fun j => by unfold Gsp; omega))
        rcases cs with ⟨e1, e2, e3⟩ | ⟨e1, e2, SP⟩
        · rw [e1] at Ko
          refine rh2.sl ((vcX1_learnText_23 hh Ko (LE0 rfl)).toS) ?_
          refine rh2.sl ((eG.less (L' := [(0, 2, 0)]) (fun z hz => by rw [List.mem_singleton] at hz; rw [hz]; exact List.mem_cons_self)).toS) ?_
          refine rh2.l (rX1_learnText_37 hh _ ?_)
          rw [e3]
          refine ⟨⟨by omega, by omega⟩, ?_⟩
          refine rh1.of (rX32_learnText_35 hm _ _ _ _ ?_)
          refine ⟨fun _ => ⟨⟨by omega, by omega⟩, rfl, Rtp.use (Mh := Mh) (Mm := Mm) (rh_set_s _ _ _ _) (rh_set_s _ _ _ _), F1.fx (fun c c0 c1 => rh_set_n (by omega)) (rh_set_j (by omega)) (fun c c0 c1 => rh_set_n (by omega)), gA1.st (by unfold Flt1 Ftp; omega), gB1.st (by unfold Glt1; omega)⟩, fun z => by omega⟩
        · rw [e1] at Ko
          refine rh2.sl (vX1_learnText_23 hh Ko (LE0 rfl)) ?_
          obtain ⟨A2, hA2⟩ : ∃ A2, A2 = rh_set A1 1 2 0 := ⟨_, rfl⟩
          have fA2 : frx (fun c j => Fsp c j ∨ (c = 1 ∧ j = 2)) Mh A2 := by rw [hA2]; exact (fA1.w (fun c j h => .inl h)).st (.inr ⟨rfl, rfl⟩)
          have fBm : frx (fun c j => (c = 0 ∧ j = 0) ∨ Gsp c j) Mm B1 := (fB0.w (fun c j h => .inl h)).tr (fB1.w (fun c j h => .inr h))
          have P2 : Pgd A2 B1 x2 := Pgd.fx (Mh := Mh) (Mm := Mm) ⟨(R x2 hp.1 hp.2).1, h4, S x2 hp.1 hp.2 k1, k3, k4⟩ hp.1 (fun c c0 => fA2.cell (fun j => by unfold Fsp; omega)) (fun c c0 => fBm.cell (fun j => by unfold Gsp; omega))
          obtain ⟨n, hn⟩ : ∃ n, n = B1 26 x2 := ⟨_, rfl⟩
          have nb : A2 (251 + 39 * x2 + 9) 18 = n ∧ 0 ≤ n ∧ n ≤ 80 := by
            obtain ⟨tot, -, Wd, -⟩ := P2.2.2.2.2
            rw [hn]
            exact ⟨Wd.1, Wd.2.1.1, Wd.2.1.2⟩
          obtain ⟨A3, B3, E1, E2, fA3, fB3, c3⟩ := l_runs hh hm (x1 := x1) hp nb.2.2 A2 B1 P2 hn.symm n.toNat 0 A2 B1 (by omega) (by omega) frx.rf frx.rf (fun k k0 k1 => by omega)
          obtain ⟨g, hg⟩ : ∃ g, g = B1 0 99 := ⟨_, rfl⟩
          obtain ⟨sp1, sp2, sp3⟩ := SP
          rw [← hg] at sp1 sp2 sp3
          have a27 : A3 0 27 = g := by rw [fA3 0 27 (by unfold Fpr; omega), hA2, rh_set_a (by decide)]; exact sp1
          have b99 : B3 0 99 = g := by rw [fB3 0 99 (by unfold Gpr Giw Gcl; omega)]; exact hg.symm
          have W3 : ∀ i, 0 ≤ i → i < g → Wsp A3 B3 (B0 1) (B0 0 2) i := fun i i0 i1 => (sp3 i i0 i1).fx (Int.le_refl _) (by rw [fA3 239 i (by unfold Fpr; omega), hA2, rh_set_a (by decide)]) (by rw [fA3 240 i (by unfold Fpr; omega), hA2, rh_set_a (by decide)]) (fB3 70 i (by unfold Gpr Giw Gcl; omega)) (fB3 71 i (by unfold Gpr Giw Gcl; omega))
          obtain ⟨A4, B4, K4, L4, fA4, fB4, c4⟩ := t_align hh hm (R := B3 72) (S := B3 71) (n := n) (g := g) ⟨nb.2.1, nb.2.2⟩ sp2 (fun i i0 i1 => by have := (c3 i i0 i1).2.2; exact ⟨by omega, by omega⟩) (fun j j0 j1 => by have := (W3 j j0 j1).2.2.1; exact ⟨by omega, by omega⟩) A3 B3 a27 (fun i i0 i1 => (c3 i i0 i1).1) (fun j j0 j1 => (W3 j j0 j1).2.1) b99 (fun _ _ _ => rfl) (fun _ _ _ => rfl)
          have gA4 : frx (fun c j => Fpr c j ∨ (241 ≤ c ∧ c ≤ 243)) A2 A4 := (fA3.w (fun c j h => by unfold Fpr at h ⊢; omega)).tr (fA4.w (fun c j h => by unfold Fpr; omega))
          have gB4 : frx (fun c j => Gpr c j ∨ (72 ≤ c ∧ c ≤ 74)) B1 B4 := (fB3.w (fun c j h => by unfold Gpr Giw Gcl at h ⊢; omega)).tr (fB4.w (fun c j h => by unfold Gpr Giw Gcl; omega))
          have P4 : Pgd A4 B4 x2 := P2.fx hp.1 (fun c c0 => gA4.cell (fun j => by unfold Fpr; omega)) (fun c c0 => gB4.cell (fun j => by unfold Gpr Giw Gcl; omega))
          have F4 : Rfm A4 B4 := F1.fx (fun c c0 c1 => by rw [gA4.cell (a := c) (fun j => by unfold Fpr; omega), hA2]; exact rh_set_n (by omega)) (gB4 0 89 (by unfold Gpr Giw Gcl; omega)) (fun c c0 c1 => gB4.cell (fun j => by unfold Gpr Giw Gcl; omega))
          have e41 : B4 4 x2 = B1 4 x2 := gB4 4 x2 (by unfold Gpr Giw Gcl; omega)
          have e51 : B4 5 x2 = B1 5 x2 := gB4 5 x2 (by unfold Gpr Giw Gcl; omega)
          have rc : ∀ k, rcn A4 (251 + 39 * x2) k (B4 4 x2) (B4 5 x2) = rcn A2 (251 + 39 * x2) k (B1 4 x2) (B1 5 x2) := fun k => by
            unfold rcn
            rw [e41, e51, gA4.cell (a := 251 + 39 * x2 + 2) (fun j => by unfold Fpr; omega), gA4.cell (a := 251 + 39 * x2 + 32) (fun j => by unfold Fpr; omega)]
          obtain ⟨t, A5, B5, E5, E6, F5, fA5, fB5⟩ := l_all hh hm (x1 := x1) (p := x2) (n := n) (g := g) (v := B0 1) (T := B0 0 2) hp hx1 nb.2.2 sp2 tb A4 B4 P4 (by rw [gB4 26 x2 (by unfold Gpr Giw Gcl; omega)]; exact hn.symm) (fun k k0 k1 => by
            obtain ⟨d1, d2, -⟩ := c3 k k0 k1
            rw [fA4 241 k (by omega), fB4 72 k (by omega), rc k]
            exact ⟨d1, d2⟩) c4 (fun i i0 i1 => (W3 i i0 i1).fx (Int.le_refl _) (fA4 239 i (by omega)) (fA4 240 i (by omega)) (fB4 70 i (by omega)) (fB4 71 i (by omega))) (fun k k0 k1 hs => by
            obtain ⟨d1, d2, d3⟩ := T0.2.2.2 k k0 k1
            rw [gA4 2 k (by unfold Fpr; omega), fA2 2 k (by unfold Fsp; omega)]
            exact (by_p d3 ⟨by omega, by omega⟩).mp d1) (fun k k0 k1 => by rw [gB4 1 k (by unfold Gpr Giw Gcl; omega), fB1 1 k (by unfold Gsp; omega)]) n.toNat 0 0 A4 B4 (by omega) (by omega) (by omega) (F4.2.1.1) F4 frx.rf frx.rf
          refine rh2.l (rX1_learnText_26 hh _ _ _ ?_)
          rw [← hA2, nb.1]
          refine ⟨hp, ?_⟩
          intro z hz
          rw [hz]
          refine rh2.r (rX32_learnText_35 hm _ _ _ _ ?_)
          rw [← hn]
          refine ⟨fun y => absurd e2 y, fun _ => ⟨hp, ?_⟩⟩
          refine rh2.sl E1 (rh2.sr E2 ?_)
          refine rh2.sl (vX1_learnText_132 hh K4 (LE0 rfl)) (rh2.sr (vX32_learnText_95 hm L4 (LE0 rfl)) ?_)
          refine rh2.l (rX1_learnText_135 hh _ _ _ _ ?_)
          refine rh2.r (rX32_learnText_98 hm _ _ _ _ ?_)
          obtain ⟨ra, Ma, Ea, ha1, ha2⟩ := E5 (fun r M => r = t ∧ M = A5) ⟨rfl, rfl⟩
          obtain ⟨rb, Mb, Eb, hb1, hb2⟩ := E6 (fun r M => r = t ∧ M = rh_set B5 0 2 0) ⟨rfl, rfl⟩
          refine ⟨ra, Ma, rb, Mb, Ea, Eb, by rw [ha1, hb1], ?_⟩
          rw [ha2, hb2]
          refine ⟨Rtp.use (Mh := Mh) (Mm := Mm) ?_ (rh_set_s _ _ _ _), F5.fx (fun c c0 c1 => rfl) (rh_set_j (by omega)) (fun c c0 c1 => rh_set_n (by omega)), ?_, ?_⟩
          · rw [fA5 1 2 (by unfold Flx Fpr Flw; omega), gA4 1 2 (by unfold Fpr; omega), hA2, rh_set_s]
          · exact ((fA2.w (fun c j h => by unfold Fsp at h; unfold Flt1 Ftp; omega)).tr (gA4.w (fun c j h => by unfold Fpr at h; unfold Flt1; omega))).tr (fA5.w (fun c j h => by unfold Flx Fpr Flw at h; unfold Flt1; omega))
          · exact ((gB1.tr (gB4.w (fun c j h => by unfold Gpr Giw Gcl at h; unfold Glt1; omega))).tr (fB5.w (fun c j h => by unfold Glx Gpr Giw Gcl Glw at h; unfold Glt1; omega))).st (by unfold Glt1; omega)
  · have mp : ¬ ((0 ≤ x2 ∧ x2 ≤ 7) ∧ 0 < B0 4 x2) := fun z => by
      have := (R x2 z.1.1 (by omega)).2.mpr (by have := z.2; rw [fB0 4 x2 (by omega)] at this; exact this)
      exact a ⟨z.1, this⟩
    rw [rh_if_t a] at hv
    refine ⟨fun _ => ?_, fun z => by omega⟩
    refine rh1.of (rX32_learnText_0 hm _ _ _ ?_)
    rw [← hB0]
    refine ⟨fun z => ⟨by omega, by omega⟩, fun z => ⟨by omega, by omega⟩, ?_⟩
    intro y hy
    rw [rh_if_t mp] at hy
    rw [hv, hy]
    exact ⟨fun _ => keep _, fun z => by omega⟩
end LearnTO
