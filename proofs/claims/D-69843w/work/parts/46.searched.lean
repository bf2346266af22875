/-! ===== LAYER 2: searched, pieces, isPiece, sumOf ===== -/
section Searched
variable {wh wm : rhW}
theorem Rp.fx {Mh Mm Mh' Mm' : rhM} {x p : Int} (R : Rp Mh Mm x p) (h1 : Mh' x 1 = Mh x 1) (h2 : Mh' x 2 = Mh x 2) (h3 : Mh' (x + 1) = Mh (x + 1)) (g3 : Mm' 3 = Mm 3) (g4 : Mm' 4 = Mm 4) (g5 : Mm' 5 = Mm 5) : Rp Mh' Mm' x p := by
  unfold Rp at R ⊢
  rw [h1, h2, h3, g3, g4, g5]
  exact R
/-- what a search of page x touches -/
abbrev Fsr (x a j : Int) : Prop := (a = 10 ∧ j = 4) ∨ (11 ≤ a ∧ a ≤ 14) ∨ (a = x ∧ (j = 4 ∨ j = 6)) ∨ (x + 2 ≤ a ∧ a ≤ x + 8)
/-- what findPieces touches (and thrown) -/
abbrev Gpc (a j : Int) : Prop := (a = 0 ∧ (j = 0 ∨ (17 ≤ j ∧ j ≤ 19) ∨ j = 31)) ∨ (9 ≤ a ∧ a ≤ 11) ∨ (15 ≤ a ∧ a ≤ 22)
def Rsr (M : rhM) : Prop := ∀ p : Int, 0 ≤ p → p < 8 → M (251 + 39 * p) 4 ≠ 0 → Srch M (251 + 39 * p)
theorem Srch.fx {M M' : rhM} {x : Int} (S : Srch M x) (h1 : M' x 1 = M x 1) (h2 : M' x 2 = M x 2) (h6 : M' x 6 = M x 6) (hc : ∀ a : Int, x + 1 ≤ a → a ≤ x + 8 → M' a = M a) : Srch M' x := by
  obtain ⟨lab, cnt, S⟩ := S
  refine ⟨lab, cnt, ?_⟩
  unfold SrL hcol at S ⊢
  rw [h1, h2, h6, hc (x + 1) (by omega) (by omega), hc (x + 2) (by omega) (by omega), hc (x + 3) (by omega) (by omega), hc (x + 4) (by omega) (by omega), hc (x + 5) (by omega) (by omega), hc (x + 6) (by omega) (by omega), hc (x + 7) (by omega) (by omega), hc (x + 8) (by omega) (by omega)]
  exact S
theorem Rsr.fx {M M' : rhM} {F : Int → Int → Prop} (S : Rsr M) (f : frx F M M') (hF : ∀ p a j : Int, 0 ≤ p → p < 8 → F a j → ¬ (a = 251 + 39 * p ∧ (j = 1 ∨ j = 2 ∨ j = 4 ∨ j = 6)) ∧ ¬ (251 + 39 * p + 1 ≤ a ∧ a ≤ 251 + 39 * p + 8)) : Rsr M' := by
  intro p p0 p1 h
  rw [f _ _ (fun z => (hF p _ _ p0 p1 z).1 ⟨rfl, (by omega)⟩)] at h
  exact (S p p0 p1 h).fx (f _ _ (fun z => (hF p _ _ p0 p1 z).1 ⟨rfl, (by omega)⟩)) (f _ _ (fun z => (hF p _ _ p0 p1 z).1 ⟨rfl, (by omega)⟩)) (f _ _ (fun z => (hF p _ _ p0 p1 z).1 ⟨rfl, (by omega)⟩)) (fun a a0 a1 => f.cell (fun j z => (hF p _ _ p0 p1 z).2 ⟨a0, a1⟩))
theorem Rsr.srch {M M' : rhM} {q : Int} (S : Rsr M) (q0 : 0 ≤ q) (q1 : q < 8) (f : frx (Fsr (251 + 39 * q)) M M') (hS : Srch M' (251 + 39 * q)) : Rsr M' := by
  intro p p0 p1 h
  by_cases e : p = q
  · rw [e]; exact hS
  · rw [f _ _ (by omega)] at h
    exact (S p p0 p1 h).fx (f _ _ (by omega)) (f _ _ (by omega)) (f _ _ (by omega)) (fun a a0 a1 => f.cell (fun j => (by omega)))
theorem c_searched (hh : rh_hs wh) {p : Int} (hp : 0 ≤ p ∧ p < 8) {Mh Mm : rhM} (R : Rp Mh Mm (251 + 39 * p) p) (S : Rsr Mh) :
    rC1 wh YX1_searched 4 [(2, 0), (0, p)] Mh (fun r M' => r = 251 + 39 * p ∧ frx (Fsr (251 + 39 * p)) Mh M' ∧ M' (251 + 39 * p) 4 ≠ 0 ∧ Rsr M' ∧ Rp M' Mm (251 + 39 * p) p) := by
  refine rC1.of (by decide) (LE0 rfl) ?_
  refine rh1.of (rX1_searched_0 hh _ _ ?_)
  refine ⟨hp, ?_⟩
  have R' := R
  obtain ⟨a1, a2, a3, a4, a5, a6, a7, a8, a9, a10⟩ := R'
  obtain ⟨r, M1, E1, -, f1, h4, hS⟩ := c_search hh (hs_pg hh hp.1 hp.2) (by omega) Mh a1 a2 a3 a4 a6 a7 a8 (S p hp.1 hp.2)
  replace f1 : frx (Fsr (251 + 39 * p)) Mh M1 := f1.w (fun a j h => by unfold Fsr; omega)
  refine rh1.s (vX1_searched_10 (hs_pg hh hp.1 hp.2) E1 (LE0 rfl)) ?_
  refine rh1.of (rX1_searched_13 hh _ _ ?_)
  exact ⟨hp, rfl, f1, h4, S.srch hp.1 hp.2 f1 hS, R.fx (f1 _ _ (by omega)) (f1 _ _ (by omega)) (f1.cell (fun j => (by omega))) rfl rfl rfl⟩
theorem SrPc {Mh Mm M2 : rhM} {x p : Int} (R : Rp Mh Mm x p) (S : Srch Mh x) (P : PcM M2 (Mm 4 p) (Mm 5 p) (mcol Mm p)) : Mh x 6 = M2 0 31 ∧ (0 ≤ M2 0 31 ∧ M2 0 31 ≤ 300) ∧ (∀ k, 0 ≤ k ∧ k < Mm 4 p * Mm 5 p → Mh (x + 2) k = if M2 9 k < M2 0 31 then M2 9 k else -1) ∧
    ∀ i, 0 ≤ i → i < M2 0 31 → Mh (x + 3) i = M2 22 i ∧ Mh (x + 4) i = M2 15 i ∧ Mh (x + 5) i = M2 16 i ∧ Mh (x + 6) i = M2 17 i ∧ Mh (x + 7) i = M2 18 i ∧ Mh (x + 8) i = M2 19 i := by
  obtain ⟨a1, a2, a3, a4, a5, a6, a7, a8, a9, a10⟩ := R
  obtain ⟨lab, cnt, s1, s2, s3, s4, s5⟩ := S
  obtain ⟨p1, p2, p3, p4, p5, p6⟩ := P
  rw [a1, a2] at s1 s2 s4 s5
  have s1' : Lb (Mm 4 p) (Mm 4 p * Mm 5 p) (mcol Mm p) True lab cnt := s1.cols (fun k hk => by
    unfold hcol mcol
    rw [(a10 k hk.1 hk.2).1]
    by_cases z : Mm 3 (6144 * p + k) < 128
    · rw [rh_if_t z]; exact ⟨fun _ => z, fun _ => rfl⟩
    · rw [rh_if_f z]; exact ⟨fun y => absurd y (by decide), fun y => absurd y z⟩)
  have e1 := s1'.one p3
  have e2 := s1'.nums p3
  have e3 : Mh x 6 = M2 0 31 := by rw [s3, p5, e2]
  have nb := min300_b p3.2.2.2.2.2
  rw [← p5] at nb
  refine ⟨e3, ⟨nb.1, nb.2.1⟩, fun k hk => by rw [s4 k hk, e1 k hk, e3], fun i i0 i1 => ?_⟩
  obtain ⟨b1, b2⟩ := s5 i i0 (by omega)
  obtain ⟨c1, c2, -, -⟩ := p6 i i0 i1
  have b3 := (b2.labs e1).one c2
  refine ⟨b3.1, ?_, b3.2.1, b3.2.2.1, b3.2.2.2.1, b3.2.2.2.2⟩
  rw [b1, c1]
  exact nct_cg _ (fun j j0 j1 => by rw [e1 j ⟨j0, (by omega)⟩])
theorem op_pieces (hh : rh_hs wh) (hm : rh_ms wm) {Mh Mm : rhM} (R : Rpg Mh Mm) (S : Rsr Mh) (x1 : Int) : rC2 wh YX1_pieces 5 [(2, 0), (0, x1)] Mh wm YX32_pieces 3 [(2, 0), (0, x1)] Mm (fun r M' r2 M2' => r = r2 ∧ (∃ p : Int, (0 ≤ p ∧ p < 8) ∧ frx (Fsr (251 + 39 * p)) Mh M') ∧ Rsr M' ∧ frx Gpc Mm M2') := by
  refine rC2.of (by decide) (LE0 rfl) (by decide) (LE0 rfl) ?_
  have e4 : rh_set Mm 0 0 0 4 x1 = Mm 4 x1 := rh_set_a (by decide)
  have f0 : frx Gpc Mm (rh_set Mm 0 0 0) := frx.rf.st (by unfold Gpc; omega)
  refine rh2.l (rX1_pieces_0 hh _ _ ?_)
  refine ⟨(by omega), fun c => ?_, fun c => ?_⟩
  · have hp : 0 ≤ x1 ∧ x1 < 8 := ⟨by omega, by omega⟩
    obtain ⟨R1, b⟩ := R x1 hp.1 hp.2
    obtain ⟨r, M1, E1, rfl, f1, h4, S1, R2⟩ := c_searched hh hp R1 S
    refine rh2.sl (vX1_pieces_10 hh E1 (LE0 rfl)) ?_
    refine rh2.r (rX32_pieces_0 hm _ _ ?_)
    rw [e4]
    refine ⟨fun _ => hp, fun d => by omega, fun d => ?_⟩
    have R1' := R1
    obtain ⟨a1, a2, a3, a4, a5, a6, a7, a8, a9, a10⟩ := R1'
    obtain ⟨r, M2, E2, -, f2, -, P⟩ := c_findPieces hm hp (rh_set Mm 0 0 0) (W := Mm 4 x1) (H := Mm 5 x1) e4 (rh_set_a (by decide)) a3 a4 a6 a7 a8
    refine rh2.sr (vX32_pieces_18 hm E2 (LE0 rfl)) ?_
    refine rh2.l (rX1_pieces_13 hh _ _ (hs_pg hh hp.1 hp.2) ?_)
    refine rh1.of (rX32_pieces_21 hm _ ?_)
    have Q := SrPc R2 (S1 x1 hp.1 hp.2 h4) (M2 := M2) (by
      have : mcol (rh_set Mm 0 0 0) x1 = mcol Mm x1 := by unfold mcol; rw [rh_set_n (by omega)]
      rw [← this]; exact P)
    exact ⟨Q.1, ⟨x1, hp, f1⟩, S1, f0.tr (f2.w (fun a j h => by unfold Gpc; omega))⟩
  · refine rh1.of (rX32_pieces_0 hm _ _ ?_)
    rw [e4]
    refine ⟨(by omega), fun d => ⟨rfl, ⟨0, by decide, frx.rf⟩, S, f0⟩, fun d => ?_⟩
    have := (R x1 (by omega) (by omega)).2
    omega
theorem c_isPiece (hh : rh_hs wh) {Mh Mm : rhM} (R : Rpg Mh Mm) (S : Rsr Mh) (x1 x2 : Int) :
    rC1 wh YX1_isPiece 5 [(2, 0), (0, x1), (0, x2)] Mh (fun r M' => (¬ ((0 ≤ x1 ∧ x1 ≤ 7) ∧ 0 < Mm 4 x1) → r = 0 ∧ M' = Mh) ∧ (((0 ≤ x1 ∧ x1 ≤ 7) ∧ 0 < Mm 4 x1) → r = (rh_if (0 ≤ x2 ∧ x2 ≤ M' (251 + 39 * x1) 6 - 1) (1 : Int) 0) ∧ frx (Fsr (251 + 39 * x1)) Mh M' ∧ M' (251 + 39 * x1) 4 ≠ 0 ∧ Rsr M' ∧ Rp M' Mm (251 + 39 * x1) x1)) := by
  refine rC1.of (by decide) (LE0 rfl) ?_
  refine rh1.of (rX1_isPiece_0 hh _ _ _ ?_)
  refine ⟨(by omega), fun c => ?_, fun c => ⟨fun _ => ⟨rfl, rfl⟩, fun d => ?_⟩⟩
  · have hp : 0 ≤ x1 ∧ x1 < 8 := ⟨by omega, by omega⟩
    obtain ⟨R1, b⟩ := R x1 hp.1 hp.2
    obtain ⟨r, M1, E1, rfl, f1, h4, S1, R2⟩ := c_searched hh hp R1 S
    refine rh1.s (vX1_isPiece_13 hh E1 (LE0 rfl)) ?_
    refine rh1.of (rX1_isPiece_16 hh _ _ _ _ (hs_pg hh hp.1 hp.2) ?_)
    obtain ⟨lab, cnt, s1, s2, s3, -⟩ := S1 x1 hp.1 hp.2 h4
    have nb := min300_b s1.2.2.2.2.2
    rw [← s3] at nb
    exact ⟨⟨by omega, by omega⟩, fun d => absurd ⟨c.1, (by omega)⟩ d, fun _ => ⟨rfl, f1, h4, S1, R2⟩⟩
  · have := (R x1 (by omega) (by omega)).2
    exact absurd ⟨d.1, this.mpr d.2⟩ c
theorem c_sumOf (hh : rh_hs wh) {x i b W H : Int} (hx : rh_bl wh 0 x 0) (M : rhM) (hW : M x 1 = W) (hH : M x 2 = H) (hW0 : 0 ≤ W) (hWb : W ≤ 128) (hHb : H ≤ 96) (hN0 : 0 ≤ W * H) (hN : W * H ≤ 6144) :
    eC wh YX29_sumOf 1 [(2, x), (0, i), (0, b)] M (psum (fun k => if b ≠ 0 then k % W else k / W) (M (x + 2)) i (W * H).toNat) M := by
  refine eC.of1 (rC1.of (by decide) (LE0 rfl) ?_)
  refine rh1.of (rX29_sumOf_0 hh _ _ _ _ hx ?_)
  have key : ∀ (v : Nat) (k : Nat), (W * H - k).toNat = v → ((k : Int) ≤ W * H) → rh1 wh YX29_sumOf 1 5 [(0, 2, x), (1, 0, i), (2, 0, b), (3, 0, psum (fun k => if b ≠ 0 then k % W else k / W) (M (x + 2)) i k), (4, 0, (k : Int))] [] M (fun r M' => r = psum (fun k => if b ≠ 0 then k % W else k / W) (M (x + 2)) i (W * H).toNat ∧ M' = M) := by
    intro v
    induction v using Nat.strongRecOn with
    | ind v ih =>
      intro k hv k1
      refine rh1.of (rX29_sumOf_5 hh _ _ _ _ _ _ hx ?_)
      rw [hW, hH]
      refine ⟨(by omega), fun c => ?_, fun c => ?_⟩
      · have hW1 := wpos hW0 (show (0 : Int) ≤ (k : Int) by omega) c
        refine ⟨⟨by omega, by omega⟩, fun _ _ => ⟨by omega, by omega⟩, fun _ _ => ⟨by omega, by omega⟩, fun s es => ?_⟩
        have es2 : s = psum (fun k => if b ≠ 0 then k % W else k / W) (M (x + 2)) i (k + 1) := by
          simp only [psum]
          rw [es, rh_ifd, rh_ifd]
        have hb := psum_b (g := fun k => if b ≠ 0 then k % W else k / W) (lab := M (x + 2)) (i := i) (m := 128) (k + 1) (fun j j0 j1 => by
          have := dm_b (z := j) (H := H) hW1 j0 (by omega)
          show 0 ≤ (if b ≠ 0 then j % W else j / W) ∧ (if b ≠ 0 then j % W else j / W) ≤ 128
          split <;> omega) (by omega)
        refine ⟨⟨by rw [es2]; omega, by rw [es2]; omega⟩, ⟨by omega, by omega⟩, ?_⟩
        have := ih _ (by omega) (k + 1) rfl (by omega)
        rw [← es2] at this
        exact this
      · exact ⟨by rw [show (W * H).toNat = k by omega], rfl⟩
  exact key _ 0 rfl hN0
end Searched
