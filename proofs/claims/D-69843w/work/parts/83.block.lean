/-! ===== LAYER 2: the lines of a block, the model, whole ===== -/
section BlockM
variable {wh wm : rhW} {L T R B : Int → Int} {np : Int}
theorem eS.tr {w : rhW} {Y : rhY} {h pc pc' pc'' : Nat} {L L' L'' : rhL} {S S' S'' : List rhA} {M M' M'' : rhM} (h1 : eS w Y h pc L S M pc' L' S' M') (h2 : eS w Y h pc' L' S' M' pc'' L'' S'' M'') : eS w Y h pc L S M pc'' L'' S'' M'' := fun r M0 E => h1 r M0 (h2 r M0 E)
theorem eS.rf {w : rhW} {Y : rhY} {h pc : Nat} {L : rhL} {S : List rhA} {M : rhM} : eS w Y h pc L S M pc L S M := fun _ _ E => E
/-- a line on both sides -/
def LnR (M1 M2 : rhM) (x p l : Int) : Prop := M1 (x + 9 + 9) l = M2 33 (60 * p + l) ∧ M1 (x + 9 + 10) l = M2 34 (60 * p + l) ∧ M1 (x + 9 + 11) l = M2 35 (60 * p + l) ∧ M1 (x + 9 + 12) l = M2 36 (60 * p + l) ∧ M1 (x + 9 + 13) (l + 1) - M1 (x + 9 + 13) l = M2 37 (60 * p + l) ∧ M1 (x + 9 + 14) l = M2 38 (60 * p + l) ∧ (0 ≤ M2 33 (60 * p + l) ∧ M2 33 (60 * p + l) < 20) ∧ (0 ≤ M2 34 (60 * p + l) ∧ M2 34 (60 * p + l) < M2 35 (60 * p + l) ∧ M2 35 (60 * p + l) ≤ 96) ∧ (0 ≤ M2 37 (60 * p + l) ∧ M2 37 (60 * p + l) ≤ 300)
theorem LnR.fx {M1 M2 N1 N2 : rhM} {x p l : Int} (h : LnR M1 M2 x p l) (h1 : ∀ a : Int, x + 9 + 9 ≤ a → a ≤ x + 9 + 14 → N1 a l = M1 a l) (h1' : N1 (x + 9 + 13) (l + 1) = M1 (x + 9 + 13) (l + 1)) (h2 : ∀ a : Int, 33 ≤ a → a ≤ 38 → N2 a (60 * p + l) = M2 a (60 * p + l)) : LnR N1 N2 x p l := by
  unfold LnR at h ⊢
  rw [h1 (x + 9 + 9) (by omega) (by omega), h1 (x + 9 + 10) (by omega) (by omega), h1 (x + 9 + 11) (by omega) (by omega), h1 (x + 9 + 12) (by omega) (by omega), h1 (x + 9 + 13) (by omega) (by omega), h1 (x + 9 + 14) (by omega) (by omega), h1', h2 33 (by omega) (by omega), h2 34 (by omega) (by omega), h2 35 (by omega) (by omega), h2 36 (by omega) (by omega), h2 37 (by omega) (by omega), h2 38 (by omega) (by omega)]
  exact h
abbrev Flb (x l l' c j : Int) : Prop := (c = x + 9 ∧ j = 18) ∨ (c = x + 9 + 14 ∧ l ≤ j ∧ j < l') ∨ (x + 9 + 16 ≤ c ∧ c ≤ x + 9 + 23) ∨ c = x + 9 + 26 ∨ c = x + 9 + 27
abbrev Glb (p l l' b c j : Int) : Prop := (c = 0 ∧ (j = 70 ∨ j = 73)) ∨ (c = 25 ∧ j = p) ∨ (c = 26 ∧ j = p) ∨ (c = 32 ∧ j = 20 * p + b) ∨ (33 ≤ c ∧ c ≤ 38 ∧ 60 * p + l ≤ j ∧ j < 60 * p + l') ∨ (39 ≤ c ∧ c ≤ 45 ∧ 80 * p ≤ j ∧ j < 80 * p + 80) ∨ (c = 46 ∧ 300 * p ≤ j ∧ j < 300 * p + 300) ∨ (49 ≤ c ∧ c ≤ 55)
theorem Glb.s {p l l' b c j : Int} (h : c = 52) : Glb p l l' b c j := .inr (.inr (.inr (.inr (.inr (.inr (.inr (by omega)))))))
theorem Gln.b {p l b c j : Int} (h : Gln p l b c j) : Glb p l (l + 1) b c j := by
  rcases h with h | h | h | h | h
  · exact .inr (.inl h)
  · exact .inr (.inr (.inr (.inl h)))
  · exact .inr (.inr (.inr (.inr (.inl (by omega)))))
  · exact .inl ⟨h.1, .inl h.2⟩
  · exact .inr (.inr (.inr (.inr (.inr (.inr (.inr (by omega)))))))
theorem Gfw.b {p l b c j : Int} (h : Gfw p l c j) : Glb p l (l + 1) b c j := by
  rcases h with h | h | h | h | h | h | h
  · exact .inl ⟨h.1, .inr h.2⟩
  · exact .inr (.inr (.inl h))
  · exact .inr (.inr (.inr (.inr (.inl (by omega)))))
  · exact .inr (.inr (.inr (.inr (.inr (.inl h)))))
  · exact .inr (.inr (.inr (.inr (.inr (.inr (.inl h))))))
  · exact .inr (.inr (.inr (.inr (.inr (.inr (.inr (by omega)))))))
  · exact .inr (.inr (.inr (.inr (.inr (.inr (.inr (by omega)))))))
theorem Glb.m {p l0 l m m' b c j : Int} (h : Glb p l m b c j) (h1 : l0 ≤ l) (h2 : m ≤ m') : Glb p l0 m' b c j := by
  rcases h with h | h | h | h | h | h | h | h
  · exact .inl h
  · exact .inr (.inl h)
  · exact .inr (.inr (.inl h))
  · exact .inr (.inr (.inr (.inl h)))
  · exact .inr (.inr (.inr (.inr (.inl ⟨h.1, h.2.1, by omega, by omega⟩))))
  · exact .inr (.inr (.inr (.inr (.inr (.inl h)))))
  · exact .inr (.inr (.inr (.inr (.inr (.inr (.inl h))))))
  · exact .inr (.inr (.inr (.inr (.inr (.inr (.inr h))))))
theorem Ffw.b {x l l0 l' c j : Int} (h : Ffw x l c j) (h1 : l0 ≤ l) (h2 : l < l') : Flb x l0 l' c j := by
  rcases h with h | h | h | h | h
  · exact .inl h
  · exact .inr (.inl ⟨h.1, by omega, by omega⟩)
  · exact .inr (.inr (.inl h))
  · exact .inr (.inr (.inr (.inl h)))
  · exact .inr (.inr (.inr (.inr h)))
theorem Flb.m {x l m m' c j : Int} (h : Flb x l m c j) (h2 : m ≤ m') : Flb x l m' c j := by
  rcases h with h | h | h | h | h
  · exact .inl h
  · exact .inr (.inl ⟨h.1, h.2.1, by omega⟩)
  · exact .inr (.inr (.inl h))
  · exact .inr (.inr (.inr (.inl h)))
  · exact .inr (.inr (.inr (.inr h)))
theorem c_lineM (hh : rh_hs wh) (hm : rh_ms wm) {x p b l u tt wq W H v : Int} {g gu : Int → Int} (hx : rh_bl wh 0 x 0) (hy : rh_bl wh 1 (x + 9) 0) (hx2 : 100 ≤ x) (hp : 0 ≤ p ∧ p < 8) (hb : 0 ≤ b ∧ b < 20) (A1 A2 : rhM) (hPa1 : PcH A1 x np L T R B) (hPa : PcN A2 np L T R B) (hnp : 0 ≤ np ∧ np ≤ 300) (hpb : Pcb L T R B np) (hpw : ∀ i, 0 ≤ i → i < np → R i ≤ W ∧ B i ≤ H) (hl0 : 0 ≤ l ∧ l < 60) (hl10 : l < A1 (x + 9) 10) (q25 : A2 25 p = l) (q32 : A2 32 (20 * p + b) = u) (u32 : 0 ≤ u ∧ u < 1000) (q49 : ∀ i, 0 ≤ i → i < np → A2 49 i = g i) (hv : 0 ≤ v ∧ v < np) (hgv : g v = v) (hal : ∀ j, gu j = v ↔ g j = v) (D : LnD L T B np A1 (x + 9) l b gu v) (hI : ∀ q q', 0 ≤ q → q < q' → q' < tt → A1 (x + 9 + 15) q ≠ A1 (x + 9 + 15) q') (ht9 : A1 (x + 9 + 13) (l + 1) ≤ tt) (qW : WdR L T R B A1 A2 x p np W H l (A1 (x + 9 + 13) l) wq) (q73 : A2 0 73 = wq) (qw : 0 ≤ wq ∧ wq ≤ A1 (x + 9 + 13) l) :
    rC1 wm YX32_lineOfSet 3 [(2, 0), (0, p), (0, b), (0, v)] (rh_set A2 52 v 1) (fun r N2 => ∃ (N1 : rhM) (wq' : Int), eS wh YX30_make 6 147 [(0, 2, x + 9), (1, 2, x), (6, 0, l)] [] A1 147 [(0, 2, x + 9), (1, 2, x), (6, 0, l + 1)] [] N1 ∧ frx (Ffw x l) A1 N1 ∧ frx (Glb p l (l + 1) b) A2 N2 ∧ N2 25 p = l + 1 ∧ N2 32 (20 * p + b) = u + 1 ∧ LnR N1 N2 x p l ∧ WdR L T R B N1 N2 x p np W H (l + 1) (A1 (x + 9 + 13) (l + 1)) wq' ∧ N2 0 73 = wq' ∧ 0 ≤ wq' ∧ wq' ≤ A1 (x + 9 + 13) (l + 1) ∧ N2 49 = A2 49 ∧ N2 50 = A2 50 ∧ N2 51 = A2 51 ∧ N2 52 = upz (A2 52) v 1) := by
    refine rC1.of (by decide) (LE0 rfl) ?_
    have hPs : PcN (rh_set A2 52 v 1) np L T R B := hPa.fx (rh_set_a (by omega)) (fun a a0 a1 => rh_set_n (by omega))
    refine m_line hm hp hb (rh_set A2 52 v 1) hPs hnp (g := g) (l := l) (fun i i0 i1 => by rw [rh_set_a (by omega)]; exact q49 i i0 i1) (by rw [rh_set_a (by omega), q25]) ⟨by omega, by omega⟩ (by rw [rh_set_a (by omega), q32]; omega) (fun C fC c25 c32 c33 c34 c35 c36 c37 c38 c70 c53 => ?_)
    have hPc : PcN C np L T R B := hPs.fx (fC 0 31 (by omega)) (fun a a0 a1 => fC.cell (fun j => (by omega)))
    obtain ⟨D1, D2, D3, D4, D5, D6, D7⟩ := D
    have en : nct (gu) v np.toNat = nct g v np.toNat := nct_cg _ (fun j _ _ => hal j)
    have et : lst T (gu) v 96 np.toNat = lst T g v 999 np.toNat := by
      rw [lst_cg _ (fun j _ _ => ⟨hal j, fun _ => rfl⟩)]
      exact (lst_one (j := v) ⟨by omega, by omega⟩ hgv (fun j j0 j1 _ => by have := hpb j j0 (by omega); omega))
    have el : lst L (gu) v 128 np.toNat = lst L g v 999 np.toNat := by
      rw [lst_cg _ (fun j _ _ => ⟨hal j, fun _ => rfl⟩)]
      exact (lst_one (j := v) ⟨by omega, by omega⟩ hgv (fun j j0 j1 _ => by have := hpb j j0 (by omega); omega))
    have eb : gst B (gu) v 0 np.toNat = gst B g v 0 np.toNat := gst_cg _ (fun j _ _ => ⟨hal j, fun _ => rfl⟩)
    have em : mem L T (gu) v np.toNat = mem L T g v np.toNat := mem_cg _ (fun j _ _ => hal j)
    rw [en] at D5 D7
    rw [em] at D7
    rw [et] at D2
    rw [eb] at D3
    rw [el] at D4
    have npos := nct_pos (f := g) (c := v) hv.1 hgv np.toNat (by omega)
    have pv := hpb v hv.1 hv.2
    have tb1 := (lst_s (g := T) (lab := g) (i := v) (a := 999) np.toNat).2.1 v hv.1 (by omega) hgv
    have tb2 : 0 ≤ lst T g v 999 np.toNat := by
      rcases (lst_s (g := T) (lab := g) (i := v) (a := 999) np.toNat).2.2 with q | ⟨j, j0, -, q⟩
      · omega
      · have := hpb j j0.1 (by omega); omega
    have bbl := (gst_s (g := B) (lab := g) (i := v) (a := 0) np.toNat).2.1
    have bb1 := bbl v hv.1 (by omega) hgv
    have bb2 : gst B g v 0 np.toNat ≤ 96 := by
      rcases (gst_s (g := B) (lab := g) (i := v) (a := 0) np.toNat).2.2 with q | ⟨j, j0, -, q⟩
      · omega
      · have := hpb j j0.1 (by omega); omega
    have hWc : WdR L T R B A1 C x p np W H (l + 1) (A1 (x + 9 + 13) l) wq := by
      refine qW.fx (by omega) (by omega) (by omega) rfl (fun _ _ _ => rfl) (fun _ _ => rfl) ?_ (fun a j a0 a1 j0 j1 => ?_) (fun j j0 j1 => ?_) (fun l' l0' l1' => ?_)
      · rw [fC _ _ (by omega), rh_set_a (by omega)]
      · rw [fC _ _ (by omega), rh_set_a (by omega)]
      · rw [fC _ _ (by omega), rh_set_a (by omega)]
      · exact ⟨by rw [fC _ _ (by omega), rh_set_a (by omega)], by rw [fC _ _ (by omega), rh_set_a (by omega)]⟩
    obtain ⟨r1, N1, r2, N2, K1, K2, w1, w2, w3, wq', w4, w5, w6, w7⟩ := c_findWords hh hm (l := l) (fr := A1 (x + 9 + 13) l) (cnt := nct g v np.toNat) (wpc := wq) (W := W) (H := H) hx hy hx2 hp A1 C hPa1 hPc hnp hpb hpw ⟨by omega, by omega⟩ rfl D5 npos D6.1 (by rw [← D5]; exact D6.2) c70 (fun j j0 j1 => by
      rw [D7 j j0 j1, c53 j j0 j1]
      have := mem_b (L := L) (T := T) (g := g) (s := v) np.toNat j j0 j1
      exact ⟨rfl, this.1, (by omega)⟩) (by rw [D2, c34]; exact ⟨rfl, tb2, (by omega)⟩) (by rw [D3, c35]; exact ⟨rfl, (by omega), (by omega)⟩) c38 (fun q q' q0 q1 q2 => hI q q' q0 q1 (by omega)) hWc (by rw [fC _ _ (by omega), rh_set_a (by omega), q73]) qw (fun j j0 j1 => by
      rw [c53 j j0 j1, c35, c34]
      have := mem_b (L := L) (T := T) (g := g) (s := v) np.toNat j j0 j1
      exact ⟨bbl _ this.1 this.2.1 this.2.2, (lst_s (g := T) (lab := g) (i := v) (a := 999) np.toNat).2.1 _ this.1 this.2.1 this.2.2⟩)
    refine rh1.s (vX32_lineOfSet_273 hm K2 (LE0 rfl)) ?_
    refine rh1.of (rX32_lineOfSet_276 hm _ ?_)
    have g9 : ∀ a : Int, 49 ≤ a → a ≤ 52 → N2 a = rh_set A2 52 v 1 a := fun a a0 a1 => by rw [w2.cell (fun j => (by omega)), fC.cell (fun j => (by omega))]
    refine ⟨N1, wq', ?_, w1, ?_, ?_, ?_, ⟨?_, ?_, ?_, ?_, ?_, w3, ?_, ?_, ?_⟩, ?_, w5, w6, by rw [D5]; exact w7, ?_, ?_, ?_, ?_⟩
    · refine eS.of (fun P HP => ?_)
      refine rh1.of (rX30_make_147 hh _ _ _ _ hy hx ?_)
      refine ⟨fun _ => ?_, fun z => by omega⟩
      refine rh1.s (vX30_make_160 hy K1 (LE0 rfl)) ?_
      refine rh1.of (rX30_make_163 hh _ _ _ _ hy hx ?_)
      exact ⟨⟨by omega, by omega⟩, HP⟩
    · have s0 : frx (fun c j => c = 52) A2 (rh_set A2 52 v 1) := frx.rf.st rfl
      exact ((s0.w (fun c j h => Glb.s h)).tr (fC.w (fun c j h => Gln.b h))).tr (w2.w (fun c j h => Gfw.b h))
    · rw [w2 _ _ (by omega), c25]
    · rw [w2 _ _ (by omega), c32, rh_set_a (by omega), q32]
    · rw [w1 _ _ (by omega), D1, w2 _ _ (by omega), c33]
    · rw [w1 _ _ (by omega), D2, w2 _ _ (by omega), c34]
    · rw [w1 _ _ (by omega), D3, w2 _ _ (by omega), c35]
    · rw [w1 _ _ (by omega), D4, w2 _ _ (by omega), c36]
    · rw [w1 _ _ (by omega), w1 _ _ (by omega), w2 _ _ (by omega), c37]; omega
    · rw [w2 _ _ (by omega), c33]; exact hb
    · rw [w2 34 _ (by omega), w2 35 _ (by omega), c34, c35]; omega
    · rw [w2 _ _ (by omega), c37]; omega
    · rw [D5]; exact w4
    · rw [g9 49 (by omega) (by omega), rh_set_n (by omega)]
    · rw [g9 50 (by omega) (by omega), rh_set_n (by omega)]
    · rw [g9 51 (by omega) (by omega), rh_set_n (by omega)]
    · rw [g9 52 (by omega) (by omega), rh_set_f]
theorem c_linesOfBlock (hh : rh_hs wh) (hm : rh_ms wm) {x p b l0 tt wpc W H : Int} {t : Nat} {g : Int → Int} (hx : rh_bl wh 0 x 0) (hy : rh_bl wh 1 (x + 9) 0) (hx2 : 100 ≤ x) (hp : 0 ≤ p ∧ p < 8) (Mh Mm : rhM) (hPh : PcH Mh x np L T R B) (hPm : PcN Mm np L T R B) (hnp : 0 ≤ np ∧ np ≤ 300) (hpb : Pcb L T R B np) (hpw : ∀ i, 0 ≤ i → i < np → R i ≤ W ∧ B i ≤ H) (hb : 0 ≤ b ∧ b < 20) (hG : Grp T B (Mm 48) b np g) (hl : Mm 25 p = l0) (hl0 : 0 ≤ l0) (hlt : l0 + t ≤ Mh (x + 9) 10) (hl60 : Mh (x + 9) 10 ≤ 60) (hLn : LnB L T B np Mh (x + 9) l0 b g t) (hI : ∀ q q', 0 ≤ q → q < q' → q' < tt → Mh (x + 9 + 15) q ≠ Mh (x + 9 + 15) q') (htt : ∀ u : Nat, u < t → Mh (x + 9 + 13) (l0 + u + 1) ≤ tt) (hW : WdR L T R B Mh Mm x p np W H l0 (Mh (x + 9 + 13) l0) wpc) (h73 : Mm 0 73 = wpc) (hwp : 0 ≤ wpc ∧ wpc ≤ Mh (x + 9 + 13) l0) (h32 : Mm 32 (20 * p + b) = 0) :
    rC1 wm YX32_linesOfBlock 4 [(2, 0), (0, p), (0, b)] Mm (fun r N2 => ∃ (N1 : rhM) (wpc' : Int), eS wh YX30_make 6 147 [(0, 2, x + 9), (1, 2, x), (6, 0, l0)] [] Mh 147 [(0, 2, x + 9), (1, 2, x), (6, 0, l0 + t)] [] N1 ∧ frx (Flb x l0 (l0 + t)) Mh N1 ∧ frx (Glb p l0 (l0 + t) b) Mm N2 ∧ N2 25 p = l0 + t ∧ N2 32 (20 * p + b) = t ∧ (∀ l, l0 ≤ l → l < l0 + t → LnR N1 N2 x p l) ∧ WdR L T R B N1 N2 x p np W H (l0 + t) (Mh (x + 9 + 13) (l0 + t)) wpc' ∧ N2 0 73 = wpc' ∧ 0 ≤ wpc' ∧ wpc' ≤ Mh (x + 9 + 13) (l0 + t)) := by
  refine rC1.of (by decide) (LE0 rfl) ?_
  generalize hPost : (fun (r : Int) (N2 : rhM) => ∃ (N1 : rhM) (wpc' : Int), eS wh YX30_make 6 147 [(0, 2, x + 9), (1, 2, x), (6, 0, l0)] [] Mh 147 [(0, 2, x + 9), (1, 2, x), (6, 0, l0 + t)] [] N1 ∧ frx (Flb x l0 (l0 + t)) Mh N1 ∧ frx (Glb p l0 (l0 + t) b) Mm N2 ∧ N2 25 p = l0 + t ∧ N2 32 (20 * p + b) = t ∧ (∀ l, l0 ≤ l → l < l0 + t → LnR N1 N2 x p l) ∧ WdR L T R B N1 N2 x p np W H (l0 + t) (Mh (x + 9 + 13) (l0 + t)) wpc' ∧ N2 0 73 = wpc' ∧ 0 ≤ wpc' ∧ wpc' ≤ Mh (x + 9 + 13) (l0 + t)) = Post
  refine rh1.of (rX32_linesOfBlock_0 hm _ _ _ ?_)
  obtain ⟨r, M1, E1, f1, G1⟩ := c_findSets hm (b := b) Mm hPm hnp hpb
  refine rh1.s (vX32_linesOfBlock_2 hm E1 (LE0 rfl)) ?_
  have eg : ∀ i, 0 ≤ i → i < np → M1 49 i = g i := fun i i0 i1 => G1.one hG i i0 i1
  clear G1
  refine rh1.of (rX32_linesOfBlock_5 hm _ _ _ ?_)
  have gb : ∀ i, 0 ≤ i → i < np → -1 ≤ g i ∧ g i ≤ i := fun i i0 i1 => by
    by_cases q : g i = -1
    · omega
    · have := (hG.1.1 i i0 i1).2 q; omega
  have gself := hG.self
  replace hG := Hid.mk hG
  replace gself := Hid.mk gself
  replace gb := Hid.mk gb
  replace eg := Hid.mk eg
  replace hI := Hid.mk hI
  replace htt := Hid.mk htt
  replace hW := Hid.mk hW
  obtain ⟨hLn, hEnd⟩ := hLn
  replace hLn := Hid.mk hLn
  replace hEnd := Hid.mk hEnd
  -- all sets are empty
  have key : ∀ (vq : Nat) (k : Int) (M2 : rhM), (np - k).toNat = vq → (0 ≤ k) → (k ≤ np) → (frx (fun c _ => c = 50 ∨ c = 51 ∨ c = 52) M1 M2) → ((∀ i, 0 ≤ i → i < k → M2 50 i = 999 ∧ M2 51 i = 999 ∧ M2 52 i = 1)) → rh1 wm YX32_linesOfBlock 4 7 [(0, 2, 0), (1, 0, p), (2, 0, b), (3, 0, k)] [] M2 Post := by
    intro vq
    induction vq using Nat.strongRecOn with
    | ind vq ih =>
      intro k M2 hvq k0 k1 f h1
      refine rh1.of (rX32_linesOfBlock_7 hm _ _ _ _ ?_)
      rw [f 0 31 (by omega), f1 0 31 (by omega), hPm.1]
      refine ⟨fun c => ⟨⟨by omega, by omega⟩, ⟨by omega, by omega⟩, ⟨by omega, by omega⟩, ⟨by omega, by omega⟩, ih _ (by omega) (k + 1) _ rfl (by omega) (by omega) (((f.st (by omega)).st (by omega)).st (by omega)) (fun i i0 i1 => ?_)⟩, fun c => ?_⟩
      · by_cases q : i = k
        · rw [q]; simp [rh_sets]
        · simp only [rh_set_j q]; exact h1 i i0 (by omega)
      · -- the sets' tops and lefts
        have key2 : ∀ (vq : Nat) (j : Nat) (M3 : rhM), (np - j).toNat = vq → ((j : Int) ≤ np) → (frx (fun c _ => c = 50 ∨ c = 51 ∨ c = 52) M1 M3) → ((∀ s, 0 ≤ s → s < np → M3 50 s = lst T g s 999 j ∧ M3 51 s = lst L g s 999 j ∧ (nct g s j = 0 → M3 52 s = 1) ∧ (nct g s j ≠ 0 → M3 52 s = 0))) → rh1 wm YX32_linesOfBlock 4 48 [(0, 2, 0), (1, 0, p), (2, 0, b), (3, 0, (j : Int))] [] M3 Post := by
          intro vq
          induction vq using Nat.strongRecOn with
          | ind vq ih2 =>
            intro j M3 hvq j1 f3 h3
            have eK : (j : Int) + 1 = ((j + 1 : Nat) : Int) := (by omega)
            have hP3 : PcN M3 np L T R B := hPm.fx (by rw [f3 0 31 (by omega), f1 0 31 (by omega)]) (fun a a0 a1 => by rw [f3.cell (fun j => (by omega)), f1.cell (fun j => (by omega))])
            replace h3 := Hid.mk h3
            refine rh1.of (rX32_linesOfBlock_48 hm _ _ _ _ ?_)
            rw [hP3.1]
            refine ⟨fun c => ⟨⟨by omega, by omega⟩, fun d => ?_, fun d => ⟨⟨by omega, by omega⟩, ?_⟩⟩, fun c => ?_⟩
            · have e49 : M3 49 j = g j := by rw [f3 49 j (by omega)]; exact eg.out j (by omega) c
              rw [e49] at d ⊢
              have gj := gb.out j (by omega) c
              generalize hs : g j = s at *
              have sr : 0 ≤ s ∧ s < 300 := ⟨by omega, by omega⟩
              obtain ⟨u1, u2, u3, u4⟩ := h3.out s (by omega) (by omega)
              obtain ⟨p1, p2, -, -⟩ := hP3.2 j (by omega) c
              refine ⟨sr, ?_⟩
              rintro _ rfl
              simp (disch := omega) only [rh_set_a, p2, u1]
              refine ⟨sr, ⟨by omega, by omega⟩, fun v1 e1 => ⟨sr, ?_⟩⟩
              rintro _ rfl
              simp (disch := omega) only [rh_set_a, p1, u2]
              refine ⟨sr, ⟨by omega, by omega⟩, fun v2 e2 => ⟨sr, ⟨by omega, by omega⟩, ?_⟩⟩
              rw [eK]
              refine ih2 _ (by omega) (j + 1) _ rfl (by omega) (((f3.st (by omega)).st (by omega)).st (by omega)) (fun z z0 z1 => ?_)
              have nb := nct_b g z j
              simp only [lst, nct]
              rw [hs]
              by_cases q : z = s
              · rw [q]
                have nb := nct_b g s j
                have r1 : rh_set (rh_set (rh_set M3 52 s 0) 50 s v1) 51 s v2 50 s = v1 := by rw [rh_set_a (by omega), rh_set_s]
                have r3 : rh_set (rh_set (rh_set M3 52 s 0) 50 s v1) 51 s v2 52 s = 0 := by rw [rh_set_a (by omega), rh_set_a (by omega), rh_set_s]
                rw [r1, rh_set_s, r3]
                refine ⟨?_, ?_, fun y => ?_, fun _ => rfl⟩
                · rw [e1, rh_ifd]; exact mn_lst s
                · rw [e2, rh_ifd]; exact mn_lst s
                · rw [if_pos rfl] at y; omega
              · simp only [rh_set_j q]
                have q' : ¬ (s = z) := fun y => q y.symm
                rw [if_neg (fun y => q' y.1), if_neg (fun y => q' y.1), if_neg q', Int.add_zero]
                exact h3.out z z0 z1
            · have e49 : M3 49 j = g j := by rw [f3 49 j (by omega)]; exact eg.out j (by omega) c
              rw [e49] at d
              rw [eK]
              refine ih2 _ (by omega) (j + 1) M3 rfl (by omega) f3 (fun z z0 z1 => ?_)
              have q' : ¬ (g j = z) := fun y => d (by omega)
              simp only [lst, nct]
              rw [if_neg (fun y => q' y.1), if_neg (fun y => q' y.1), if_neg q', Int.add_zero]
              exact h3.out z z0 z1
            · have ej : j = np.toNat := (by omega)
              rw [ej] at h3
              clear ih ih2 h1 j1 c
              -- line after line
              have main : ∀ (vq : Nat) (u : Nat) (A1 A2 : rhM) (wq mo : Int), (60 - u : Int).toNat = vq → mo ≠ 0 → u ≤ t → eS wh YX30_make 6 147 [(0, 2, x + 9), (1, 2, x), (6, 0, l0)] [] Mh 147 [(0, 2, x + 9), (1, 2, x), (6, 0, l0 + u)] [] A1 → frx (Flb x l0 (l0 + u)) Mh A1 → frx (Glb p l0 (l0 + u) b) Mm A2 → A2 25 p = l0 + u → A2 32 (20 * p + b) = u → Hid (∀ l, l0 ≤ l → l < l0 + u → LnR A1 A2 x p l) → Hid (WdR L T R B A1 A2 x p np W H (l0 + u) (Mh (x + 9 + 13) (l0 + u)) wq) → A2 0 73 = wq → 0 ≤ wq → wq ≤ Mh (x + 9 + 13) (l0 + u) → Hid (∀ i, 0 ≤ i → i < np → A2 49 i = g i) → Hid (∀ s, 0 ≤ s → s < np → A2 50 s = lst T g s 999 np.toNat ∧ A2 51 s = lst L g s 999 np.toNat ∧ (A2 52 s = 0 ↔ gq T L np g u s = s)) → rh1 wm YX32_linesOfBlock 4 132 [(0, 2, 0), (1, 0, p), (2, 0, b), (3, 0, mo)] [] A2 Post := by
                intro vq
                induction vq using Nat.strongRecOn with
                | ind vq ih =>
                  intro u A1 A2 wq mo hvq hmo hut path F1 F2 q25 q32 qL qW q73 qw0 qw1 q49 qS
                  have hPa : PcN A2 np L T R B := hPm.fx (F2 0 31 (by omega)) (fun a a0 a1 => F2.cell (fun j => (by omega)))
                  have hPa1 : PcH A1 x np L T R B := hPh.fx (F1 x 6 (by omega)) (fun a a0 a1 => F1.cell (fun j => (by omega)))
                  have best : nxt (fun i => A2 52 i = 0) (A2 50) (A2 51) np.toNat = nxg T L np (gq T L np g u) := by
                    refine nxt_cg _ (fun i i0 i1 => (qS.out i i0 (by omega)).2.2) (fun i i0 i1 ha => ?_)
                    obtain ⟨b1, b2, b3⟩ := qS.out i i0 (by omega)
                    have hs := b3.mp ha
                    have hal := gq_al (T := T) (L := L) (np := np) (g := g) i0 u hs
                    have gi : g i = i := (hal i).mp hs
                    rw [b1, b2]
                    have e1 : lst T (gq T L np g u) i 96 np.toNat = lst T g i 96 np.toNat := lst_cg _ (fun j _ _ => ⟨hal j, fun _ => rfl⟩)
                    have e2 : lst L (gq T L np g u) i 128 np.toNat = lst L g i 128 np.toNat := lst_cg _ (fun j _ _ => ⟨hal j, fun _ => rfl⟩)
                    show _ = lst T (gq T L np g u) i 96 np.toNat ∧ _ = lst L (gq T L np g u) i 128 np.toNat
                    rw [e1, e2]
                    refine ⟨lst_one (j := i) ⟨by omega, by omega⟩ gi (fun j j0 j1 _ => ?_), lst_one (j := i) ⟨by omega, by omega⟩ gi (fun j j0 j1 _ => ?_)⟩
                    · have := hpb j j0 (by omega); omega
                    · have := hpb j j0 (by omega); omega
                  refine rh1.of (rX32_linesOfBlock_132 hm _ _ _ _ ?_)
                  refine ⟨fun _ => ?_, fun z => absurd hmo z⟩
                  have inner : ∀ (vq : Nat) (k : Nat) (v : Int), (np - k).toNat = vq → (k : Int) ≤ np → v = nxt (fun i => A2 52 i = 0) (A2 50) (A2 51) k → rh1 wm YX32_linesOfBlock 4 142 [(0, 2, 0), (1, 0, p), (2, 0, b), (4, 0, v), (5, 0, (k : Int))] [] A2 Post := by
                    intro vq
                    induction vq using Nat.strongRecOn with
                    | ind vq ihi =>
                      intro k v hvq2 k1 ev
                      have eK : (k : Int) + 1 = ((k + 1 : Nat) : Int) := (by omega)
                      have vb : v ≠ -1 → 0 ≤ v ∧ v < k := fun y => by
                        rcases nxt_b (al := fun i => A2 52 i = 0) (T := A2 50) (L := A2 51) k with q | q
                        · exact absurd (ev.trans q) y
                        · rw [ev]; exact ⟨q.1, q.2.1⟩
                      replace vb := Hid.mk vb
                      refine rh1.of (rX32_linesOfBlock_142 hm _ _ _ _ _ ?_)
                      rw [hPa.1]
                      refine ⟨fun c => ⟨⟨by omega, by omega⟩, fun d => ⟨fun e => ?_, fun e v' ev' => ⟨⟨by omega, by omega⟩, ?_⟩⟩, fun d v' ev' => ⟨⟨by omega, by omega⟩, ?_⟩⟩, fun c => ⟨fun _ => hp, fun mo' emo => ?_⟩⟩
                      · have vr := vb.out e
                        refine rh1.s (vX32_linesOfBlock_172 hm (c_isEarlierSet hm A2 (i := (k : Int)) (j := v) ⟨by omega, by omega⟩ ⟨by omega, by omega⟩) (LE0 rfl)) ?_
                        refine rh1.of (rX32_linesOfBlock_175 hm _ _ _ _ _ _ ?_)
                        intro v' ev'
                        refine ⟨⟨by omega, by omega⟩, ?_⟩
                        rw [eK]
                        refine ihi _ (by omega) (k + 1) v' rfl (by omega) ?_
                        rw [ev', propext if1_ne]
                        simp only [nxt]
                        rw [← ev]
                        refine rh_if_cg ⟨fun y => ⟨d, ?_⟩, fun y => ?_⟩
                        · rcases y with y | ⟨y1, y2 | y3⟩
                          · exact .inr (.inl y)
                          · exact .inr (.inr ⟨y1, y2⟩)
                          · omega
                        · rcases y.2 with y | y | y
                          · exact absurd y e
                          · exact .inl y
                          · exact .inr ⟨y.1, .inl y.2⟩
                      · rw [eK]
                        refine ihi _ (by omega) (k + 1) v' rfl (by omega) ?_
                        simp only [nxt]
                        rw [← ev, rh_if_t ⟨d, .inl (by omega)⟩]; exact ev'
                      · rw [eK]
                        refine ihi _ (by omega) (k + 1) v' rfl (by omega) ?_
                        simp only [nxt]
                        rw [← ev, rh_if_f (fun y => d y.1)]; exact ev'
                      · rw [show k = np.toNat by omega, best] at ev
                        rw [q25] at emo
                        by_cases hu : u < t
                        · obtain ⟨n1, D⟩ := hLn.out u hu
                          rw [← ev] at n1 D
                          have hv : 0 ≤ v ∧ v < np ∧ gq T L np g u v = v := by
                            rcases nxg_b (T := T) (L := L) (np := np) (g := gq T L np g u) with q | q
                            · rw [← ev] at q; exact absurd q n1
                            · rw [← ev] at q; exact q
                          have hal := gq_al (T := T) (L := L) (np := np) (g := g) hv.1 u hv.2.2
                          have hgv : g v = v := (hal v).mp hv.2.2
                          rw [rh_if_t ⟨n1, (by omega)⟩] at emo
                          refine ⟨fun _ => ⟨⟨by omega, by omega⟩, ?_⟩, fun z => absurd emo (by omega)⟩
                          -- the line
                          have a13 : A1 (x + 9 + 13) = Mh (x + 9 + 13) := F1.cell (fun j => (by omega))
                          have a15 : A1 (x + 9 + 15) = Mh (x + 9 + 15) := F1.cell (fun j => (by omega))
                          have a10 : A1 (x + 9) 10 = Mh (x + 9) 10 := F1 _ _ (by omega)
                          have D' : LnD L T B np A1 (x + 9) (l0 + u) b (gq T L np g u) v := D.fx (F1 _ _ (by omega)) (F1 _ _ (by omega)) (F1 _ _ (by omega)) (F1 _ _ (by omega)) (F1 _ _ (by omega)) (F1 _ _ (by omega)) (fun j _ => F1 _ _ (by omega))
                          have line := c_lineM hh hm (l := l0 + u) (u := (u : Int)) (tt := tt) (wq := wq) (v := v) (g := g) (gu := gq T L np g u) hx hy hx2 hp hb A1 A2 hPa1 hPa hnp hpb hpw ⟨by omega, by omega⟩ (by rw [a10]; omega) q25 q32 ⟨by omega, by omega⟩ q49.out ⟨hv.1, hv.2.1⟩ hgv hal D' (by rw [a15]; exact hI.out) (by rw [a13]; exact htt.out u hu) (by rw [a13]; exact qW.out) q73 (by rw [a13]; exact ⟨qw0, qw1⟩)
                          rw [a13] at line
                          obtain ⟨r, N2, EE, N1, wq', v1, v2, v3, v4, v5, v6, v7, v8, v9, v10, v11, v12, v13, v14⟩ := line
                          clear D hal
                          refine rh1.s (vX32_linesOfBlock_233 hm EE (LE0 rfl)) ?_
                          refine rh1.of (rX32_linesOfBlock_236 hm _ _ _ _ ?_)
                          have eU : l0 + ((u + 1 : Nat) : Int) = l0 + u + 1 := (by omega)
                          refine ih _ (by omega) (u + 1) N1 N2 wq' mo' rfl (by omega) (by omega) ?_ ?_ ?_ (by rw [eU]; exact v4) (by rw [v5]; omega) (fun l h1 h2 => ?_) (by rw [eU]; exact v7) v8 v9 (by rw [eU]; exact v10) (by rw [v11]; exact q49) (fun s s0 s1 => ?_)
                          · rw [eU]; exact path.tr v1
                          · rw [eU]; exact (F1.w (fun c j h => Flb.m h (by omega))).tr (v2.w (fun c j h => Ffw.b h (by omega) (by omega)))
                          · rw [eU]; exact (F2.w (fun c j h => Glb.m h (by omega) (by omega))).tr (v3.w (fun c j h => Glb.m h (by omega) (by omega)))
                          · by_cases q : l = l0 + u
                            · rw [q]; exact v6
                            · exact (qL.out l h1 (by omega)).fx (fun a a0 a1 => v2 _ _ (by omega)) (v2 _ _ (by omega)) (fun a a0 a1 => v3 _ _ (by omega))
                          · obtain ⟨b1, b2, b3⟩ := qS.out s s0 s1
                            rw [v12, v13, v14]
                            refine ⟨b1, b2, ?_⟩
                            simp only [gq]
                            rw [← ev]
                            by_cases q : s = v
                            · rw [q, upz_s, if_pos hv.2.2]
                              exact ⟨fun z => by omega, fun z => by omega⟩
                            · rw [upz_n q, b3]
                              by_cases y : gq T L np g u s = v
                              · rw [if_pos y]; exact ⟨fun z => absurd (z.symm.trans y) q, fun z => by omega⟩
                              · rw [if_neg y]
                        · have eu : u = t := (by omega)
                          have hno : ¬ (v ≠ -1 ∧ l0 + (u : Int) < 60) := fun z => by
                            rcases hEnd.out with q | q
                            · omega
                            · rw [← eu, ← ev] at q; exact z.1 q
                          rw [rh_if_f hno] at emo
                          refine ⟨fun z => absurd emo z, fun _ => ?_⟩
                          refine rh1.of (rX32_linesOfBlock_132 hm _ _ _ _ ?_)
                          refine ⟨fun z => absurd emo z, fun _ => ?_⟩
                          rw [eu] at path F1 F2 q25 q32 qL qW qw1
                          rw [← hPost]
                          exact ⟨A1, wq, path, F1, F2, q25, q32, qL.out, qW.out, q73, qw0, qw1⟩
                  exact inner _ 0 (-1) rfl hnp.1 rfl
              have e0 : l0 + ((0 : Nat) : Int) = l0 := (by omega)
              refine main _ 0 Mh M3 wpc 1 rfl (by decide) (Nat.zero_le _) (by rw [e0]; exact eS.rf) frx.rf ((f1.w (fun c j h => .inr (.inr (.inr (.inr (.inr (.inr (.inr (by omega))))))))).tr (f3.w (fun c j h => .inr (.inr (.inr (.inr (.inr (.inr (.inr (by omega))))))))))  ?_ ?_ (fun l h1 h2 => by omega) ?_ ?_ hwp.1 (by rw [e0]; exact hwp.2) (fun i i0 i1 => by rw [f3 49 i (by omega)]; exact eg.out i i0 i1) (fun s s0 s1 => ?_)
              · rw [e0, f3 _ _ (by omega), f1 _ _ (by omega), hl]
              · rw [f3 _ _ (by omega), f1 _ _ (by omega), h32]; rfl
              · rw [e0]
                refine hW.out.fx (by omega) (by omega) (by omega) rfl (fun _ _ _ => rfl) (fun _ _ => rfl) ?_ (fun a j a0 a1 j0 j1 => ?_) (fun j j0 j1 => ?_) (fun l' _ _ => ?_)
                · rw [f3 _ _ (by omega), f1 _ _ (by omega)]
                · rw [f3 _ _ (by omega), f1 _ _ (by omega)]
                · rw [f3 _ _ (by omega), f1 _ _ (by omega)]
                · exact ⟨by rw [f3 _ _ (by omega), f1 _ _ (by omega)], by rw [f3 _ _ (by omega), f1 _ _ (by omega)]⟩
              · rw [f3 _ _ (by omega), f1 _ _ (by omega), h73]
              · obtain ⟨b1, b2, b3, b4⟩ := h3.out s s0 s1
                refine ⟨b1, b2, ?_⟩
                show M3 52 s = 0 ↔ g s = s
                by_cases q : nct g s np.toNat = 0
                · have := b3 q
                  exact ⟨fun z => by omega, fun z => absurd z (nct_z q s s0 (by omega))⟩
                · refine ⟨fun _ => ?_, fun _ => b4 q⟩
                  by_cases y : g s = s
                  · exact y
                  · exfalso
                    refine q (nct_0 _ (fun j j0 j1 hj => y ?_))
                    have := gself.out j j0 (by omega) (by omega)
                    rw [hj] at this
                    exact this
        exact key2 _ 0 M2 rfl hnp.1 f (fun s s0 s1 => ⟨(h1 s s0 (by omega)).1, (h1 s s0 (by omega)).2.1, fun _ => (h1 s s0 (by omega)).2.2, fun z => absurd rfl z⟩)
  exact key _ 0 M1 rfl (by omega) hnp.1 frx.rf (fun i i0 i1 => by omega)
end BlockM
